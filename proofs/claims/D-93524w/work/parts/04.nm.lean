/-! MergeWorkbenchModel -/
set_option maxRecDepth 100000
def RX3 : String := "MergeWorkbenchModel"
def TX3 : u_T := fun k => match k with
  | 0 => ("MergeWorkbenchModel", "thrown", "I", false)
  | 1 => ("MergeWorkbenchModel", "docs", "[I", true)
  | 2 => ("MergeWorkbenchModel", "sizes", "[I", true)
  | 3 => ("MergeWorkbenchModel", "mode", "I", false)
  | 4 => ("MergeWorkbenchModel", "shrinks", "Z", false)
  | 5 => ("MergeWorkbenchModel", "tape", "[C", true)
  | 6 => ("MergeWorkbenchModel", "taped", "I", false)
  | 7 => ("MergeWorkbenchModel", "keptRegister", "[I", true)
  | 8 => ("MergeWorkbenchModel", "keptSize", "[I", true)
  | 9 => ("MergeWorkbenchModel", "keptLines", "[I", true)
  | 10 => ("MergeWorkbenchModel", "keptMany", "I", false)
  | 11 => ("MergeWorkbenchModel", "hasSaved", "Z", false)
  | 12 => ("MergeWorkbenchModel", "savedDocs", "[I", true)
  | 13 => ("MergeWorkbenchModel", "savedSizes", "[I", true)
  | 14 => ("MergeWorkbenchModel", "savedMode", "I", false)
  | 15 => ("MergeWorkbenchModel", "work", "[I", true)
  | 16 => ("MergeWorkbenchModel", "at", "I", false)
  | 17 => ("MergeWorkbenchModel", "opened", "I", false)
  | 18 => ("MergeWorkbenchModel", "out", "I", false)
  | 19 => ("MergeWorkbenchModel", "longest", "[I", true)
  | 20 => ("MergeWorkbenchModel", "mates", "[I", true)
  | 21 => ("MergeWorkbenchModel", "chains", "[I", true)
  | 22 => ("MergeWorkbenchModel", "anchorMany", "I", false)
  | 23 => ("MergeWorkbenchModel", "rowA", "[I", true)
  | 24 => ("MergeWorkbenchModel", "rowB", "[I", true)
  | 25 => ("MergeWorkbenchModel", "hasCompared", "Z", false)
  | 26 => ("MergeWorkbenchModel", "a0", "[I", true)
  | 27 => ("MergeWorkbenchModel", "aSize", "I", false)
  | 28 => ("MergeWorkbenchModel", "b0", "[I", true)
  | 29 => ("MergeWorkbenchModel", "bSize", "I", false)
  | 30 => ("MergeWorkbenchModel", "partner", "[I", true)
  | 31 => ("MergeWorkbenchModel", "comparedAnchors", "I", false)
  | 32 => ("MergeWorkbenchModel", "moves", "[I", true)
  | 33 => ("MergeWorkbenchModel", "moveMany", "I", false)
  | 34 => ("MergeWorkbenchModel", "parts", "[I", true)
  | 35 => ("MergeWorkbenchModel", "partMany", "I", false)
  | 36 => ("MergeWorkbenchModel", "usedA", "[Z", true)
  | 37 => ("MergeWorkbenchModel", "usedB", "[Z", true)
  | 38 => ("MergeWorkbenchModel", "hasMerged", "Z", false)
  | 39 => ("MergeWorkbenchModel", "base", "[I", true)
  | 40 => ("MergeWorkbenchModel", "baseSize", "I", false)
  | 41 => ("MergeWorkbenchModel", "left", "[I", true)
  | 42 => ("MergeWorkbenchModel", "leftSize", "I", false)
  | 43 => ("MergeWorkbenchModel", "right", "[I", true)
  | 44 => ("MergeWorkbenchModel", "rightSize", "I", false)
  | 45 => ("MergeWorkbenchModel", "toLeft", "[I", true)
  | 46 => ("MergeWorkbenchModel", "toRight", "[I", true)
  | 47 => ("MergeWorkbenchModel", "chunks", "[I", true)
  | 48 => ("MergeWorkbenchModel", "chunkMany", "I", false)
  | 49 => ("MergeWorkbenchModel", "choices", "[I", true)
  | 50 => ("MergeWorkbenchModel", "conflictMany", "I", false)
  | 51 => ("MergeWorkbenchModel", "hasPatch", "Z", false)
  | 52 => ("MergeWorkbenchModel", "hunks", "[I", true)
  | 53 => ("MergeWorkbenchModel", "hunkMany", "I", false)
  | 54 => ("MergeWorkbenchModel", "oldLines", "[I", true)
  | 55 => ("MergeWorkbenchModel", "newLines", "[I", true)
  | 56 => ("MergeWorkbenchModel", "hasOutcome", "Z", false)
  | 57 => ("MergeWorkbenchModel", "outcomes", "[I", true)
  | 58 => ("MergeWorkbenchModel", "free", "I", false)
  | 59 => ("MergeWorkbenchModel", "shift", "I", false)
  | _ => ("MergeWorkbenchModel", "came", "[I", true)
def tyX3 : Nat → FieldType := fun k => match k with
  | 0 => .int
  | 1 => .array .int
  | 2 => .array .int
  | 3 => .int
  | 4 => .boolean
  | 5 => .array .char
  | 6 => .int
  | 7 => .array .int
  | 8 => .array .int
  | 9 => .array .int
  | 10 => .int
  | 11 => .boolean
  | 12 => .array .int
  | 13 => .array .int
  | 14 => .int
  | 15 => .array .int
  | 16 => .int
  | 17 => .int
  | 18 => .int
  | 19 => .array .int
  | 20 => .array .int
  | 21 => .array .int
  | 22 => .int
  | 23 => .array .int
  | 24 => .array .int
  | 25 => .boolean
  | 26 => .array .int
  | 27 => .int
  | 28 => .array .int
  | 29 => .int
  | 30 => .array .int
  | 31 => .int
  | 32 => .array .int
  | 33 => .int
  | 34 => .array .int
  | 35 => .int
  | 36 => .array .boolean
  | 37 => .array .boolean
  | 38 => .boolean
  | 39 => .array .int
  | 40 => .int
  | 41 => .array .int
  | 42 => .int
  | 43 => .array .int
  | 44 => .int
  | 45 => .array .int
  | 46 => .array .int
  | 47 => .array .int
  | 48 => .int
  | 49 => .array .int
  | 50 => .int
  | 51 => .boolean
  | 52 => .array .int
  | 53 => .int
  | 54 => .array .int
  | 55 => .array .int
  | 56 => .boolean
  | 57 => .array .int
  | 58 => .int
  | 59 => .int
  | _ => .array .int
abbrev wsX30 : List Cond := u_ws RX3 TX3 61
set_option maxRecDepth 100000 in
theorem nmX3 : ∀ a, a < 61 → ∀ b, b < 61 → a ≠ b → (TX3 a).2.1 ≠ (TX3 b).2.1 := by decide +kernel
set_option maxRecDepth 100000 in
theorem tyX3_ok : ∀ k, k < 61 → parseFieldDescriptor (TX3 k).2.2.1 = some (tyX3 k) := by decide +kernel
abbrev cX3_init : ByteArray := prog_22_method_1_code
def yX3_init : MethodName := ⟨RX3, "<init>", "()V"⟩
def dkwX3_init_11 : List UInt8 := [188, 10, 181, 0, 109, 42, 16, 50, 188, 10, 181, 0, 112, 177]
abbrev dktX3_init_11 : List UInt8 := dkwX3_init_11 ++ []
def dkwX3_init_10 : List UInt8 := [188, 10, 181, 0, 100, 42, 16, 24, 188, 10, 181, 0, 103, 42, 16, 24, 188, 10, 181, 0, 106, 42, 16, 50]
abbrev dktX3_init_10 : List UInt8 := dkwX3_init_10 ++ dktX3_init_11
def dkwX3_init_9 : List UInt8 := [181, 0, 91, 42, 17, 2, 188, 188, 10, 181, 0, 94, 42, 16, 100, 188, 10, 181, 0, 97, 42, 17, 0, 150]
abbrev dktX3_init_9 : List UInt8 := dkwX3_init_9 ++ dktX3_init_10
def dkwX3_init_8 : List UInt8 := [181, 0, 82, 42, 16, 24, 188, 10, 181, 0, 85, 42, 16, 24, 188, 10, 181, 0, 88, 42, 16, 24, 188, 10]
abbrev dktX3_init_8 : List UInt8 := dkwX3_init_8 ++ dktX3_init_9
def dkwX3_init_7 : List UInt8 := [181, 0, 72, 42, 16, 24, 188, 4, 181, 0, 76, 42, 16, 24, 188, 10, 181, 0, 79, 42, 16, 24, 188, 10]
abbrev dktX3_init_7 : List UInt8 := dkwX3_init_7 ++ dktX3_init_8
def dkwX3_init_6 : List UInt8 := [181, 0, 63, 42, 16, 72, 188, 10, 181, 0, 66, 42, 16, 120, 188, 10, 181, 0, 69, 42, 16, 24, 188, 4]
abbrev dktX3_init_6 : List UInt8 := dkwX3_init_6 ++ dktX3_init_7
def dkwX3_init_5 : List UInt8 := [181, 0, 54, 42, 16, 24, 188, 10, 181, 0, 57, 42, 16, 24, 188, 10, 181, 0, 60, 42, 16, 24, 188, 10]
abbrev dktX3_init_5 : List UInt8 := dkwX3_init_5 ++ dktX3_init_6
def dkwX3_init_4 : List UInt8 := [181, 0, 45, 42, 16, 24, 188, 10, 181, 0, 48, 42, 16, 24, 188, 10, 181, 0, 51, 42, 16, 24, 188, 10]
abbrev dktX3_init_4 : List UInt8 := dkwX3_init_4 ++ dktX3_init_5
def dkwX3_init_3 : List UInt8 := [42, 17, 7, 208, 188, 10, 181, 0, 39, 42, 17, 2, 113, 188, 10, 181, 0, 42, 42, 16, 24, 188, 10]
abbrev dktX3_init_3 : List UInt8 := dkwX3_init_3 ++ dktX3_init_4
def dkwX3_init_2 : List UInt8 := [42, 17, 0, 192, 188, 10, 181, 0, 30, 42, 16, 96, 188, 10, 181, 0, 33, 42, 7, 188, 10, 181, 0, 36]
abbrev dktX3_init_2 : List UInt8 := dkwX3_init_2 ++ dktX3_init_3
def dkwX3_init_1 : List UInt8 := [42, 16, 50, 188, 5, 181, 0, 20, 42, 16, 8, 188, 10, 181, 0, 24, 42, 16, 8, 188, 10, 181, 0, 27]
abbrev dktX3_init_1 : List UInt8 := dkwX3_init_1 ++ dktX3_init_2
def dkwX3_init_0 : List UInt8 := [42, 183, 0, 1, 42, 16, 96, 188, 10, 181, 0, 7, 42, 7, 188, 10, 181, 0, 13, 42, 4, 181, 0, 16]
abbrev dktX3_init_0 : List UInt8 := dkwX3_init_0 ++ dktX3_init_1
theorem dksX3_init_0 : cX3_init.data.toList.drop 0 = dktX3_init_0 := by decide +kernel
theorem dksX3_init_1 : cX3_init.data.toList.drop 24 = dktX3_init_1 := dk_seg dksX3_init_0 24 rfl rfl
theorem dksX3_init_2 : cX3_init.data.toList.drop 48 = dktX3_init_2 := dk_seg dksX3_init_1 24 rfl rfl
theorem dksX3_init_3 : cX3_init.data.toList.drop 72 = dktX3_init_3 := dk_seg dksX3_init_2 24 rfl rfl
theorem dksX3_init_4 : cX3_init.data.toList.drop 95 = dktX3_init_4 := dk_seg dksX3_init_3 23 rfl rfl
theorem dksX3_init_5 : cX3_init.data.toList.drop 119 = dktX3_init_5 := dk_seg dksX3_init_4 24 rfl rfl
theorem dksX3_init_6 : cX3_init.data.toList.drop 143 = dktX3_init_6 := dk_seg dksX3_init_5 24 rfl rfl
theorem dksX3_init_7 : cX3_init.data.toList.drop 167 = dktX3_init_7 := dk_seg dksX3_init_6 24 rfl rfl
theorem dksX3_init_8 : cX3_init.data.toList.drop 191 = dktX3_init_8 := dk_seg dksX3_init_7 24 rfl rfl
theorem dksX3_init_9 : cX3_init.data.toList.drop 215 = dktX3_init_9 := dk_seg dksX3_init_8 24 rfl rfl
theorem dksX3_init_10 : cX3_init.data.toList.drop 239 = dktX3_init_10 := dk_seg dksX3_init_9 24 rfl rfl
theorem dksX3_init_11 : cX3_init.data.toList.drop 263 = dktX3_init_11 := dk_seg dksX3_init_10 24 rfl rfl
theorem dX3_init_0 : decode cX3_init 0 = .ok (.aload_n 0, 1) := dk_42 (dk_at dksX3_init_0 0 rfl rfl)
theorem dX3_init_1 : decode cX3_init 1 = .ok (.invokespecial 1, 3) := dk_183 0 1 (dk_at dksX3_init_0 1 rfl rfl)
theorem dX3_init_4 : decode cX3_init 4 = .ok (.aload_n 0, 1) := dk_42 (dk_at dksX3_init_0 4 rfl rfl)
theorem dX3_init_5 : decode cX3_init 5 = .ok (.bipush 96, 2) := dk_16 96 (dk_at dksX3_init_0 5 rfl rfl)
theorem dX3_init_7 : decode cX3_init 7 = .ok (.newarray .int, 2) := dk_188_10 (dk_at dksX3_init_0 7 rfl rfl)
theorem dX3_init_9 : decode cX3_init 9 = .ok (.putfield 7, 3) := dk_181 0 7 (dk_at dksX3_init_0 9 rfl rfl)
theorem dX3_init_12 : decode cX3_init 12 = .ok (.aload_n 0, 1) := dk_42 (dk_at dksX3_init_0 12 rfl rfl)
theorem dX3_init_13 : decode cX3_init 13 = .ok (.iconst 4, 1) := dk_7 (dk_at dksX3_init_0 13 rfl rfl)
theorem dX3_init_14 : decode cX3_init 14 = .ok (.newarray .int, 2) := dk_188_10 (dk_at dksX3_init_0 14 rfl rfl)
theorem dX3_init_16 : decode cX3_init 16 = .ok (.putfield 13, 3) := dk_181 0 13 (dk_at dksX3_init_0 16 rfl rfl)
theorem dX3_init_19 : decode cX3_init 19 = .ok (.aload_n 0, 1) := dk_42 (dk_at dksX3_init_0 19 rfl rfl)
theorem dX3_init_20 : decode cX3_init 20 = .ok (.iconst 1, 1) := dk_4 (dk_at dksX3_init_0 20 rfl rfl)
theorem dX3_init_21 : decode cX3_init 21 = .ok (.putfield 16, 3) := dk_181 0 16 (dk_at dksX3_init_0 21 rfl rfl)
theorem dX3_init_24 : decode cX3_init 24 = .ok (.aload_n 0, 1) := dk_42 (dk_at dksX3_init_1 0 rfl rfl)
theorem dX3_init_25 : decode cX3_init 25 = .ok (.bipush 50, 2) := dk_16 50 (dk_at dksX3_init_1 1 rfl rfl)
theorem dX3_init_27 : decode cX3_init 27 = .ok (.newarray .char, 2) := dk_188_5 (dk_at dksX3_init_1 3 rfl rfl)
theorem dX3_init_29 : decode cX3_init 29 = .ok (.putfield 20, 3) := dk_181 0 20 (dk_at dksX3_init_1 5 rfl rfl)
theorem dX3_init_32 : decode cX3_init 32 = .ok (.aload_n 0, 1) := dk_42 (dk_at dksX3_init_1 8 rfl rfl)
theorem dX3_init_33 : decode cX3_init 33 = .ok (.bipush 8, 2) := dk_16 8 (dk_at dksX3_init_1 9 rfl rfl)
theorem dX3_init_35 : decode cX3_init 35 = .ok (.newarray .int, 2) := dk_188_10 (dk_at dksX3_init_1 11 rfl rfl)
theorem dX3_init_37 : decode cX3_init 37 = .ok (.putfield 24, 3) := dk_181 0 24 (dk_at dksX3_init_1 13 rfl rfl)
theorem dX3_init_40 : decode cX3_init 40 = .ok (.aload_n 0, 1) := dk_42 (dk_at dksX3_init_1 16 rfl rfl)
theorem dX3_init_41 : decode cX3_init 41 = .ok (.bipush 8, 2) := dk_16 8 (dk_at dksX3_init_1 17 rfl rfl)
theorem dX3_init_43 : decode cX3_init 43 = .ok (.newarray .int, 2) := dk_188_10 (dk_at dksX3_init_1 19 rfl rfl)
theorem dX3_init_45 : decode cX3_init 45 = .ok (.putfield 27, 3) := dk_181 0 27 (dk_at dksX3_init_1 21 rfl rfl)
theorem dX3_init_48 : decode cX3_init 48 = .ok (.aload_n 0, 1) := dk_42 (dk_at dksX3_init_2 0 rfl rfl)
theorem dX3_init_49 : decode cX3_init 49 = .ok (.sipush 192, 3) := dk_17 0 192 (dk_at dksX3_init_2 1 rfl rfl)
theorem dX3_init_52 : decode cX3_init 52 = .ok (.newarray .int, 2) := dk_188_10 (dk_at dksX3_init_2 4 rfl rfl)
theorem dX3_init_54 : decode cX3_init 54 = .ok (.putfield 30, 3) := dk_181 0 30 (dk_at dksX3_init_2 6 rfl rfl)
theorem dX3_init_57 : decode cX3_init 57 = .ok (.aload_n 0, 1) := dk_42 (dk_at dksX3_init_2 9 rfl rfl)
theorem dX3_init_58 : decode cX3_init 58 = .ok (.bipush 96, 2) := dk_16 96 (dk_at dksX3_init_2 10 rfl rfl)
theorem dX3_init_60 : decode cX3_init 60 = .ok (.newarray .int, 2) := dk_188_10 (dk_at dksX3_init_2 12 rfl rfl)
theorem dX3_init_62 : decode cX3_init 62 = .ok (.putfield 33, 3) := dk_181 0 33 (dk_at dksX3_init_2 14 rfl rfl)
theorem dX3_init_65 : decode cX3_init 65 = .ok (.aload_n 0, 1) := dk_42 (dk_at dksX3_init_2 17 rfl rfl)
theorem dX3_init_66 : decode cX3_init 66 = .ok (.iconst 4, 1) := dk_7 (dk_at dksX3_init_2 18 rfl rfl)
theorem dX3_init_67 : decode cX3_init 67 = .ok (.newarray .int, 2) := dk_188_10 (dk_at dksX3_init_2 19 rfl rfl)
theorem dX3_init_69 : decode cX3_init 69 = .ok (.putfield 36, 3) := dk_181 0 36 (dk_at dksX3_init_2 21 rfl rfl)
theorem dX3_init_72 : decode cX3_init 72 = .ok (.aload_n 0, 1) := dk_42 (dk_at dksX3_init_3 0 rfl rfl)
theorem dX3_init_73 : decode cX3_init 73 = .ok (.sipush 2000, 3) := dk_17 7 208 (dk_at dksX3_init_3 1 rfl rfl)
theorem dX3_init_76 : decode cX3_init 76 = .ok (.newarray .int, 2) := dk_188_10 (dk_at dksX3_init_3 4 rfl rfl)
theorem dX3_init_78 : decode cX3_init 78 = .ok (.putfield 39, 3) := dk_181 0 39 (dk_at dksX3_init_3 6 rfl rfl)
theorem dX3_init_81 : decode cX3_init 81 = .ok (.aload_n 0, 1) := dk_42 (dk_at dksX3_init_3 9 rfl rfl)
theorem dX3_init_82 : decode cX3_init 82 = .ok (.sipush 625, 3) := dk_17 2 113 (dk_at dksX3_init_3 10 rfl rfl)
theorem dX3_init_85 : decode cX3_init 85 = .ok (.newarray .int, 2) := dk_188_10 (dk_at dksX3_init_3 13 rfl rfl)
theorem dX3_init_87 : decode cX3_init 87 = .ok (.putfield 42, 3) := dk_181 0 42 (dk_at dksX3_init_3 15 rfl rfl)
theorem dX3_init_90 : decode cX3_init 90 = .ok (.aload_n 0, 1) := dk_42 (dk_at dksX3_init_3 18 rfl rfl)
theorem dX3_init_91 : decode cX3_init 91 = .ok (.bipush 24, 2) := dk_16 24 (dk_at dksX3_init_3 19 rfl rfl)
theorem dX3_init_93 : decode cX3_init 93 = .ok (.newarray .int, 2) := dk_188_10 (dk_at dksX3_init_3 21 rfl rfl)
theorem dX3_init_95 : decode cX3_init 95 = .ok (.putfield 45, 3) := dk_181 0 45 (dk_at dksX3_init_4 0 rfl rfl)
theorem dX3_init_98 : decode cX3_init 98 = .ok (.aload_n 0, 1) := dk_42 (dk_at dksX3_init_4 3 rfl rfl)
theorem dX3_init_99 : decode cX3_init 99 = .ok (.bipush 24, 2) := dk_16 24 (dk_at dksX3_init_4 4 rfl rfl)
theorem dX3_init_101 : decode cX3_init 101 = .ok (.newarray .int, 2) := dk_188_10 (dk_at dksX3_init_4 6 rfl rfl)
theorem dX3_init_103 : decode cX3_init 103 = .ok (.putfield 48, 3) := dk_181 0 48 (dk_at dksX3_init_4 8 rfl rfl)
theorem dX3_init_106 : decode cX3_init 106 = .ok (.aload_n 0, 1) := dk_42 (dk_at dksX3_init_4 11 rfl rfl)
theorem dX3_init_107 : decode cX3_init 107 = .ok (.bipush 24, 2) := dk_16 24 (dk_at dksX3_init_4 12 rfl rfl)
theorem dX3_init_109 : decode cX3_init 109 = .ok (.newarray .int, 2) := dk_188_10 (dk_at dksX3_init_4 14 rfl rfl)
theorem dX3_init_111 : decode cX3_init 111 = .ok (.putfield 51, 3) := dk_181 0 51 (dk_at dksX3_init_4 16 rfl rfl)
theorem dX3_init_114 : decode cX3_init 114 = .ok (.aload_n 0, 1) := dk_42 (dk_at dksX3_init_4 19 rfl rfl)
theorem dX3_init_115 : decode cX3_init 115 = .ok (.bipush 24, 2) := dk_16 24 (dk_at dksX3_init_4 20 rfl rfl)
theorem dX3_init_117 : decode cX3_init 117 = .ok (.newarray .int, 2) := dk_188_10 (dk_at dksX3_init_4 22 rfl rfl)
theorem dX3_init_119 : decode cX3_init 119 = .ok (.putfield 54, 3) := dk_181 0 54 (dk_at dksX3_init_5 0 rfl rfl)
theorem dX3_init_122 : decode cX3_init 122 = .ok (.aload_n 0, 1) := dk_42 (dk_at dksX3_init_5 3 rfl rfl)
theorem dX3_init_123 : decode cX3_init 123 = .ok (.bipush 24, 2) := dk_16 24 (dk_at dksX3_init_5 4 rfl rfl)
theorem dX3_init_125 : decode cX3_init 125 = .ok (.newarray .int, 2) := dk_188_10 (dk_at dksX3_init_5 6 rfl rfl)
theorem dX3_init_127 : decode cX3_init 127 = .ok (.putfield 57, 3) := dk_181 0 57 (dk_at dksX3_init_5 8 rfl rfl)
theorem dX3_init_130 : decode cX3_init 130 = .ok (.aload_n 0, 1) := dk_42 (dk_at dksX3_init_5 11 rfl rfl)
theorem dX3_init_131 : decode cX3_init 131 = .ok (.bipush 24, 2) := dk_16 24 (dk_at dksX3_init_5 12 rfl rfl)
theorem dX3_init_133 : decode cX3_init 133 = .ok (.newarray .int, 2) := dk_188_10 (dk_at dksX3_init_5 14 rfl rfl)
theorem dX3_init_135 : decode cX3_init 135 = .ok (.putfield 60, 3) := dk_181 0 60 (dk_at dksX3_init_5 16 rfl rfl)
theorem dX3_init_138 : decode cX3_init 138 = .ok (.aload_n 0, 1) := dk_42 (dk_at dksX3_init_5 19 rfl rfl)
theorem dX3_init_139 : decode cX3_init 139 = .ok (.bipush 24, 2) := dk_16 24 (dk_at dksX3_init_5 20 rfl rfl)
theorem dX3_init_141 : decode cX3_init 141 = .ok (.newarray .int, 2) := dk_188_10 (dk_at dksX3_init_5 22 rfl rfl)
theorem dX3_init_143 : decode cX3_init 143 = .ok (.putfield 63, 3) := dk_181 0 63 (dk_at dksX3_init_6 0 rfl rfl)
theorem dX3_init_146 : decode cX3_init 146 = .ok (.aload_n 0, 1) := dk_42 (dk_at dksX3_init_6 3 rfl rfl)
theorem dX3_init_147 : decode cX3_init 147 = .ok (.bipush 72, 2) := dk_16 72 (dk_at dksX3_init_6 4 rfl rfl)
theorem dX3_init_149 : decode cX3_init 149 = .ok (.newarray .int, 2) := dk_188_10 (dk_at dksX3_init_6 6 rfl rfl)
theorem dX3_init_151 : decode cX3_init 151 = .ok (.putfield 66, 3) := dk_181 0 66 (dk_at dksX3_init_6 8 rfl rfl)
theorem dX3_init_154 : decode cX3_init 154 = .ok (.aload_n 0, 1) := dk_42 (dk_at dksX3_init_6 11 rfl rfl)
theorem dX3_init_155 : decode cX3_init 155 = .ok (.bipush 120, 2) := dk_16 120 (dk_at dksX3_init_6 12 rfl rfl)
theorem dX3_init_157 : decode cX3_init 157 = .ok (.newarray .int, 2) := dk_188_10 (dk_at dksX3_init_6 14 rfl rfl)
theorem dX3_init_159 : decode cX3_init 159 = .ok (.putfield 69, 3) := dk_181 0 69 (dk_at dksX3_init_6 16 rfl rfl)
theorem dX3_init_162 : decode cX3_init 162 = .ok (.aload_n 0, 1) := dk_42 (dk_at dksX3_init_6 19 rfl rfl)
theorem dX3_init_163 : decode cX3_init 163 = .ok (.bipush 24, 2) := dk_16 24 (dk_at dksX3_init_6 20 rfl rfl)
theorem dX3_init_165 : decode cX3_init 165 = .ok (.newarray .boolean, 2) := dk_188_4 (dk_at dksX3_init_6 22 rfl rfl)
theorem dX3_init_167 : decode cX3_init 167 = .ok (.putfield 72, 3) := dk_181 0 72 (dk_at dksX3_init_7 0 rfl rfl)
theorem dX3_init_170 : decode cX3_init 170 = .ok (.aload_n 0, 1) := dk_42 (dk_at dksX3_init_7 3 rfl rfl)
theorem dX3_init_171 : decode cX3_init 171 = .ok (.bipush 24, 2) := dk_16 24 (dk_at dksX3_init_7 4 rfl rfl)
theorem dX3_init_173 : decode cX3_init 173 = .ok (.newarray .boolean, 2) := dk_188_4 (dk_at dksX3_init_7 6 rfl rfl)
theorem dX3_init_175 : decode cX3_init 175 = .ok (.putfield 76, 3) := dk_181 0 76 (dk_at dksX3_init_7 8 rfl rfl)
theorem dX3_init_178 : decode cX3_init 178 = .ok (.aload_n 0, 1) := dk_42 (dk_at dksX3_init_7 11 rfl rfl)
theorem dX3_init_179 : decode cX3_init 179 = .ok (.bipush 24, 2) := dk_16 24 (dk_at dksX3_init_7 12 rfl rfl)
theorem dX3_init_181 : decode cX3_init 181 = .ok (.newarray .int, 2) := dk_188_10 (dk_at dksX3_init_7 14 rfl rfl)
theorem dX3_init_183 : decode cX3_init 183 = .ok (.putfield 79, 3) := dk_181 0 79 (dk_at dksX3_init_7 16 rfl rfl)
theorem dX3_init_186 : decode cX3_init 186 = .ok (.aload_n 0, 1) := dk_42 (dk_at dksX3_init_7 19 rfl rfl)
theorem dX3_init_187 : decode cX3_init 187 = .ok (.bipush 24, 2) := dk_16 24 (dk_at dksX3_init_7 20 rfl rfl)
theorem dX3_init_189 : decode cX3_init 189 = .ok (.newarray .int, 2) := dk_188_10 (dk_at dksX3_init_7 22 rfl rfl)
theorem dX3_init_191 : decode cX3_init 191 = .ok (.putfield 82, 3) := dk_181 0 82 (dk_at dksX3_init_8 0 rfl rfl)
theorem dX3_init_194 : decode cX3_init 194 = .ok (.aload_n 0, 1) := dk_42 (dk_at dksX3_init_8 3 rfl rfl)
theorem dX3_init_195 : decode cX3_init 195 = .ok (.bipush 24, 2) := dk_16 24 (dk_at dksX3_init_8 4 rfl rfl)
theorem dX3_init_197 : decode cX3_init 197 = .ok (.newarray .int, 2) := dk_188_10 (dk_at dksX3_init_8 6 rfl rfl)
theorem dX3_init_199 : decode cX3_init 199 = .ok (.putfield 85, 3) := dk_181 0 85 (dk_at dksX3_init_8 8 rfl rfl)
theorem dX3_init_202 : decode cX3_init 202 = .ok (.aload_n 0, 1) := dk_42 (dk_at dksX3_init_8 11 rfl rfl)
theorem dX3_init_203 : decode cX3_init 203 = .ok (.bipush 24, 2) := dk_16 24 (dk_at dksX3_init_8 12 rfl rfl)
theorem dX3_init_205 : decode cX3_init 205 = .ok (.newarray .int, 2) := dk_188_10 (dk_at dksX3_init_8 14 rfl rfl)
theorem dX3_init_207 : decode cX3_init 207 = .ok (.putfield 88, 3) := dk_181 0 88 (dk_at dksX3_init_8 16 rfl rfl)
theorem dX3_init_210 : decode cX3_init 210 = .ok (.aload_n 0, 1) := dk_42 (dk_at dksX3_init_8 19 rfl rfl)
theorem dX3_init_211 : decode cX3_init 211 = .ok (.bipush 24, 2) := dk_16 24 (dk_at dksX3_init_8 20 rfl rfl)
theorem dX3_init_213 : decode cX3_init 213 = .ok (.newarray .int, 2) := dk_188_10 (dk_at dksX3_init_8 22 rfl rfl)
theorem dX3_init_215 : decode cX3_init 215 = .ok (.putfield 91, 3) := dk_181 0 91 (dk_at dksX3_init_9 0 rfl rfl)
theorem dX3_init_218 : decode cX3_init 218 = .ok (.aload_n 0, 1) := dk_42 (dk_at dksX3_init_9 3 rfl rfl)
theorem dX3_init_219 : decode cX3_init 219 = .ok (.sipush 700, 3) := dk_17 2 188 (dk_at dksX3_init_9 4 rfl rfl)
theorem dX3_init_222 : decode cX3_init 222 = .ok (.newarray .int, 2) := dk_188_10 (dk_at dksX3_init_9 7 rfl rfl)
theorem dX3_init_224 : decode cX3_init 224 = .ok (.putfield 94, 3) := dk_181 0 94 (dk_at dksX3_init_9 9 rfl rfl)
theorem dX3_init_227 : decode cX3_init 227 = .ok (.aload_n 0, 1) := dk_42 (dk_at dksX3_init_9 12 rfl rfl)
theorem dX3_init_228 : decode cX3_init 228 = .ok (.bipush 100, 2) := dk_16 100 (dk_at dksX3_init_9 13 rfl rfl)
theorem dX3_init_230 : decode cX3_init 230 = .ok (.newarray .int, 2) := dk_188_10 (dk_at dksX3_init_9 15 rfl rfl)
theorem dX3_init_232 : decode cX3_init 232 = .ok (.putfield 97, 3) := dk_181 0 97 (dk_at dksX3_init_9 17 rfl rfl)
theorem dX3_init_235 : decode cX3_init 235 = .ok (.aload_n 0, 1) := dk_42 (dk_at dksX3_init_9 20 rfl rfl)
theorem dX3_init_236 : decode cX3_init 236 = .ok (.sipush 150, 3) := dk_17 0 150 (dk_at dksX3_init_9 21 rfl rfl)
theorem dX3_init_239 : decode cX3_init 239 = .ok (.newarray .int, 2) := dk_188_10 (dk_at dksX3_init_10 0 rfl rfl)
theorem dX3_init_241 : decode cX3_init 241 = .ok (.putfield 100, 3) := dk_181 0 100 (dk_at dksX3_init_10 2 rfl rfl)
theorem dX3_init_244 : decode cX3_init 244 = .ok (.aload_n 0, 1) := dk_42 (dk_at dksX3_init_10 5 rfl rfl)
theorem dX3_init_245 : decode cX3_init 245 = .ok (.bipush 24, 2) := dk_16 24 (dk_at dksX3_init_10 6 rfl rfl)
theorem dX3_init_247 : decode cX3_init 247 = .ok (.newarray .int, 2) := dk_188_10 (dk_at dksX3_init_10 8 rfl rfl)
theorem dX3_init_249 : decode cX3_init 249 = .ok (.putfield 103, 3) := dk_181 0 103 (dk_at dksX3_init_10 10 rfl rfl)
theorem dX3_init_252 : decode cX3_init 252 = .ok (.aload_n 0, 1) := dk_42 (dk_at dksX3_init_10 13 rfl rfl)
theorem dX3_init_253 : decode cX3_init 253 = .ok (.bipush 24, 2) := dk_16 24 (dk_at dksX3_init_10 14 rfl rfl)
theorem dX3_init_255 : decode cX3_init 255 = .ok (.newarray .int, 2) := dk_188_10 (dk_at dksX3_init_10 16 rfl rfl)
theorem dX3_init_257 : decode cX3_init 257 = .ok (.putfield 106, 3) := dk_181 0 106 (dk_at dksX3_init_10 18 rfl rfl)
theorem dX3_init_260 : decode cX3_init 260 = .ok (.aload_n 0, 1) := dk_42 (dk_at dksX3_init_10 21 rfl rfl)
theorem dX3_init_261 : decode cX3_init 261 = .ok (.bipush 50, 2) := dk_16 50 (dk_at dksX3_init_10 22 rfl rfl)
theorem dX3_init_263 : decode cX3_init 263 = .ok (.newarray .int, 2) := dk_188_10 (dk_at dksX3_init_11 0 rfl rfl)
theorem dX3_init_265 : decode cX3_init 265 = .ok (.putfield 109, 3) := dk_181 0 109 (dk_at dksX3_init_11 2 rfl rfl)
theorem dX3_init_268 : decode cX3_init 268 = .ok (.aload_n 0, 1) := dk_42 (dk_at dksX3_init_11 5 rfl rfl)
theorem dX3_init_269 : decode cX3_init 269 = .ok (.bipush 50, 2) := dk_16 50 (dk_at dksX3_init_11 6 rfl rfl)
theorem dX3_init_271 : decode cX3_init 271 = .ok (.newarray .int, 2) := dk_188_10 (dk_at dksX3_init_11 8 rfl rfl)
theorem dX3_init_273 : decode cX3_init 273 = .ok (.putfield 112, 3) := dk_181 0 112 (dk_at dksX3_init_11 10 rfl rfl)
theorem dX3_init_276 : decode cX3_init 276 = .ok (.return_, 1) := dk_177 (dk_at dksX3_init_11 13 rfl rfl)
abbrev cX3_thrown : ByteArray := prog_22_method_2_code
def yX3_thrown : MethodName := ⟨RX3, "thrown", "()I"⟩
theorem dX3_thrown_0 : decode cX3_thrown 0 = .ok (.aload_n 0, 1) := by decide +kernel
theorem dX3_thrown_1 : decode cX3_thrown 1 = .ok (.getfield 115, 3) := by decide +kernel
theorem dX3_thrown_4 : decode cX3_thrown 4 = .ok (.ireturn, 1) := by decide +kernel
abbrev cX3_append : ByteArray := prog_22_method_11_code
def yX3_append : MethodName := ⟨RX3, "append", "(II)I"⟩
def dkwX3_append_3 : List UInt8 := [96, 79, 42, 42, 180, 0, 13, 27, 46, 182, 0, 138, 172]
abbrev dktX3_append_3 : List UInt8 := dkwX3_append_3 ++ []
def dkwX3_append_2 : List UInt8 := [180, 0, 7, 16, 24, 27, 104, 42, 180, 0, 13, 27, 46, 96, 28, 79, 42, 180, 0, 13, 27, 92, 46, 4]
abbrev dktX3_append_2 : List UInt8 := dkwX3_append_2 ++ dktX3_append_3
def dkwX3_append_1 : List UInt8 := [180, 0, 13, 27, 46, 16, 24, 160, 0, 9, 42, 5, 182, 0, 130, 172, 42, 27, 182, 0, 134, 42]
abbrev dktX3_append_1 : List UInt8 := dkwX3_append_1 ++ dktX3_append_2
def dkwX3_append_0 : List UInt8 := [27, 184, 0, 126, 153, 0, 13, 28, 3, 16, 25, 184, 0, 119, 154, 0, 9, 42, 4, 182, 0, 130, 172, 42]
abbrev dktX3_append_0 : List UInt8 := dkwX3_append_0 ++ dktX3_append_1
theorem dksX3_append_0 : cX3_append.data.toList.drop 0 = dktX3_append_0 := by decide +kernel
theorem dksX3_append_1 : cX3_append.data.toList.drop 24 = dktX3_append_1 := dk_seg dksX3_append_0 24 rfl rfl
theorem dksX3_append_2 : cX3_append.data.toList.drop 46 = dktX3_append_2 := dk_seg dksX3_append_1 22 rfl rfl
theorem dksX3_append_3 : cX3_append.data.toList.drop 70 = dktX3_append_3 := dk_seg dksX3_append_2 24 rfl rfl
theorem dX3_append_0 : decode cX3_append 0 = .ok (.iload_n 1, 1) := dk_27 (dk_at dksX3_append_0 0 rfl rfl)
theorem dX3_append_1 : decode cX3_append 1 = .ok (.invokestatic 126, 3) := dk_184 0 126 (dk_at dksX3_append_0 1 rfl rfl)
theorem dX3_append_4 : decode cX3_append 4 = .ok (.ifCond .eq 13, 3) := dk_153 0 13 (dk_at dksX3_append_0 4 rfl rfl)
theorem dX3_append_7 : decode cX3_append 7 = .ok (.iload_n 2, 1) := dk_28 (dk_at dksX3_append_0 7 rfl rfl)
theorem dX3_append_8 : decode cX3_append 8 = .ok (.iconst 0, 1) := dk_3 (dk_at dksX3_append_0 8 rfl rfl)
theorem dX3_append_9 : decode cX3_append 9 = .ok (.bipush 25, 2) := dk_16 25 (dk_at dksX3_append_0 9 rfl rfl)
theorem dX3_append_11 : decode cX3_append 11 = .ok (.invokestatic 119, 3) := dk_184 0 119 (dk_at dksX3_append_0 11 rfl rfl)
theorem dX3_append_14 : decode cX3_append 14 = .ok (.ifCond .ne 9, 3) := dk_154 0 9 (dk_at dksX3_append_0 14 rfl rfl)
theorem dX3_append_17 : decode cX3_append 17 = .ok (.aload_n 0, 1) := dk_42 (dk_at dksX3_append_0 17 rfl rfl)
theorem dX3_append_18 : decode cX3_append 18 = .ok (.iconst 1, 1) := dk_4 (dk_at dksX3_append_0 18 rfl rfl)
theorem dX3_append_19 : decode cX3_append 19 = .ok (.invokevirtual 130, 3) := dk_182 0 130 (dk_at dksX3_append_0 19 rfl rfl)
theorem dX3_append_22 : decode cX3_append 22 = .ok (.ireturn, 1) := dk_172 (dk_at dksX3_append_0 22 rfl rfl)
theorem dX3_append_23 : decode cX3_append 23 = .ok (.aload_n 0, 1) := dk_42 (dk_at dksX3_append_0 23 rfl rfl)
theorem dX3_append_24 : decode cX3_append 24 = .ok (.getfield 13, 3) := dk_180 0 13 (dk_at dksX3_append_1 0 rfl rfl)
theorem dX3_append_27 : decode cX3_append 27 = .ok (.iload_n 1, 1) := dk_27 (dk_at dksX3_append_1 3 rfl rfl)
theorem dX3_append_28 : decode cX3_append 28 = .ok (.iaload, 1) := dk_46 (dk_at dksX3_append_1 4 rfl rfl)
theorem dX3_append_29 : decode cX3_append 29 = .ok (.bipush 24, 2) := dk_16 24 (dk_at dksX3_append_1 5 rfl rfl)
theorem dX3_append_31 : decode cX3_append 31 = .ok (.if_icmp .ne 9, 3) := dk_160 0 9 (dk_at dksX3_append_1 7 rfl rfl)
theorem dX3_append_34 : decode cX3_append 34 = .ok (.aload_n 0, 1) := dk_42 (dk_at dksX3_append_1 10 rfl rfl)
theorem dX3_append_35 : decode cX3_append 35 = .ok (.iconst 2, 1) := dk_5 (dk_at dksX3_append_1 11 rfl rfl)
theorem dX3_append_36 : decode cX3_append 36 = .ok (.invokevirtual 130, 3) := dk_182 0 130 (dk_at dksX3_append_1 12 rfl rfl)
theorem dX3_append_39 : decode cX3_append 39 = .ok (.ireturn, 1) := dk_172 (dk_at dksX3_append_1 15 rfl rfl)
theorem dX3_append_40 : decode cX3_append 40 = .ok (.aload_n 0, 1) := dk_42 (dk_at dksX3_append_1 16 rfl rfl)
theorem dX3_append_41 : decode cX3_append 41 = .ok (.iload_n 1, 1) := dk_27 (dk_at dksX3_append_1 17 rfl rfl)
theorem dX3_append_42 : decode cX3_append 42 = .ok (.invokevirtual 134, 3) := dk_182 0 134 (dk_at dksX3_append_1 18 rfl rfl)
theorem dX3_append_45 : decode cX3_append 45 = .ok (.aload_n 0, 1) := dk_42 (dk_at dksX3_append_1 21 rfl rfl)
theorem dX3_append_46 : decode cX3_append 46 = .ok (.getfield 7, 3) := dk_180 0 7 (dk_at dksX3_append_2 0 rfl rfl)
theorem dX3_append_49 : decode cX3_append 49 = .ok (.bipush 24, 2) := dk_16 24 (dk_at dksX3_append_2 3 rfl rfl)
theorem dX3_append_51 : decode cX3_append 51 = .ok (.iload_n 1, 1) := dk_27 (dk_at dksX3_append_2 5 rfl rfl)
theorem dX3_append_52 : decode cX3_append 52 = .ok (.imul, 1) := dk_104 (dk_at dksX3_append_2 6 rfl rfl)
theorem dX3_append_53 : decode cX3_append 53 = .ok (.aload_n 0, 1) := dk_42 (dk_at dksX3_append_2 7 rfl rfl)
theorem dX3_append_54 : decode cX3_append 54 = .ok (.getfield 13, 3) := dk_180 0 13 (dk_at dksX3_append_2 8 rfl rfl)
theorem dX3_append_57 : decode cX3_append 57 = .ok (.iload_n 1, 1) := dk_27 (dk_at dksX3_append_2 11 rfl rfl)
theorem dX3_append_58 : decode cX3_append 58 = .ok (.iaload, 1) := dk_46 (dk_at dksX3_append_2 12 rfl rfl)
theorem dX3_append_59 : decode cX3_append 59 = .ok (.iadd, 1) := dk_96 (dk_at dksX3_append_2 13 rfl rfl)
theorem dX3_append_60 : decode cX3_append 60 = .ok (.iload_n 2, 1) := dk_28 (dk_at dksX3_append_2 14 rfl rfl)
theorem dX3_append_61 : decode cX3_append 61 = .ok (.iastore, 1) := dk_79 (dk_at dksX3_append_2 15 rfl rfl)
theorem dX3_append_62 : decode cX3_append 62 = .ok (.aload_n 0, 1) := dk_42 (dk_at dksX3_append_2 16 rfl rfl)
theorem dX3_append_63 : decode cX3_append 63 = .ok (.getfield 13, 3) := dk_180 0 13 (dk_at dksX3_append_2 17 rfl rfl)
theorem dX3_append_66 : decode cX3_append 66 = .ok (.iload_n 1, 1) := dk_27 (dk_at dksX3_append_2 20 rfl rfl)
theorem dX3_append_67 : decode cX3_append 67 = .ok (.dup2, 1) := dk_92 (dk_at dksX3_append_2 21 rfl rfl)
theorem dX3_append_68 : decode cX3_append 68 = .ok (.iaload, 1) := dk_46 (dk_at dksX3_append_2 22 rfl rfl)
theorem dX3_append_69 : decode cX3_append 69 = .ok (.iconst 1, 1) := dk_4 (dk_at dksX3_append_2 23 rfl rfl)
theorem dX3_append_70 : decode cX3_append 70 = .ok (.iadd, 1) := dk_96 (dk_at dksX3_append_3 0 rfl rfl)
theorem dX3_append_71 : decode cX3_append 71 = .ok (.iastore, 1) := dk_79 (dk_at dksX3_append_3 1 rfl rfl)
theorem dX3_append_72 : decode cX3_append 72 = .ok (.aload_n 0, 1) := dk_42 (dk_at dksX3_append_3 2 rfl rfl)
theorem dX3_append_73 : decode cX3_append 73 = .ok (.aload_n 0, 1) := dk_42 (dk_at dksX3_append_3 3 rfl rfl)
theorem dX3_append_74 : decode cX3_append 74 = .ok (.getfield 13, 3) := dk_180 0 13 (dk_at dksX3_append_3 4 rfl rfl)
theorem dX3_append_77 : decode cX3_append 77 = .ok (.iload_n 1, 1) := dk_27 (dk_at dksX3_append_3 7 rfl rfl)
theorem dX3_append_78 : decode cX3_append 78 = .ok (.iaload, 1) := dk_46 (dk_at dksX3_append_3 8 rfl rfl)
theorem dX3_append_79 : decode cX3_append 79 = .ok (.invokevirtual 138, 3) := dk_182 0 138 (dk_at dksX3_append_3 9 rfl rfl)
theorem dX3_append_82 : decode cX3_append 82 = .ok (.ireturn, 1) := dk_172 (dk_at dksX3_append_3 12 rfl rfl)
abbrev cX3_isRegister : ByteArray := prog_22_method_8_code
def yX3_isRegister : MethodName := ⟨RX3, "isRegister", "(I)Z"⟩
def dkwX3_isRegister_0 : List UInt8 := [26, 3, 6, 184, 0, 119, 172]
abbrev dktX3_isRegister_0 : List UInt8 := dkwX3_isRegister_0 ++ []
theorem dksX3_isRegister_0 : cX3_isRegister.data.toList.drop 0 = dktX3_isRegister_0 := by decide +kernel
theorem dX3_isRegister_0 : decode cX3_isRegister 0 = .ok (.iload_n 0, 1) := dk_26 (dk_at dksX3_isRegister_0 0 rfl rfl)
theorem dX3_isRegister_1 : decode cX3_isRegister 1 = .ok (.iconst 0, 1) := dk_3 (dk_at dksX3_isRegister_0 1 rfl rfl)
theorem dX3_isRegister_2 : decode cX3_isRegister 2 = .ok (.iconst 3, 1) := dk_6 (dk_at dksX3_isRegister_0 2 rfl rfl)
theorem dX3_isRegister_3 : decode cX3_isRegister 3 = .ok (.invokestatic 119, 3) := dk_184 0 119 (dk_at dksX3_isRegister_0 3 rfl rfl)
theorem dX3_isRegister_6 : decode cX3_isRegister 6 = .ok (.ireturn, 1) := dk_172 (dk_at dksX3_isRegister_0 6 rfl rfl)
abbrev cX3_in : ByteArray := prog_22_method_3_code
def yX3_in : MethodName := ⟨RX3, "in", "(III)Z"⟩
def dkwX3_in_0 : List UInt8 := [26, 27, 161, 0, 12, 26, 28, 163, 0, 7, 4, 167, 0, 4, 3, 172]
abbrev dktX3_in_0 : List UInt8 := dkwX3_in_0 ++ []
theorem dksX3_in_0 : cX3_in.data.toList.drop 0 = dktX3_in_0 := by decide +kernel
theorem dX3_in_0 : decode cX3_in 0 = .ok (.iload_n 0, 1) := dk_26 (dk_at dksX3_in_0 0 rfl rfl)
theorem dX3_in_1 : decode cX3_in 1 = .ok (.iload_n 1, 1) := dk_27 (dk_at dksX3_in_0 1 rfl rfl)
theorem dX3_in_2 : decode cX3_in 2 = .ok (.if_icmp .lt 12, 3) := dk_161 0 12 (dk_at dksX3_in_0 2 rfl rfl)
theorem dX3_in_5 : decode cX3_in 5 = .ok (.iload_n 0, 1) := dk_26 (dk_at dksX3_in_0 5 rfl rfl)
theorem dX3_in_6 : decode cX3_in 6 = .ok (.iload_n 2, 1) := dk_28 (dk_at dksX3_in_0 6 rfl rfl)
theorem dX3_in_7 : decode cX3_in 7 = .ok (.if_icmp .gt 7, 3) := dk_163 0 7 (dk_at dksX3_in_0 7 rfl rfl)
theorem dX3_in_10 : decode cX3_in 10 = .ok (.iconst 1, 1) := dk_4 (dk_at dksX3_in_0 10 rfl rfl)
theorem dX3_in_11 : decode cX3_in 11 = .ok (.goto 4, 3) := dk_167 0 4 (dk_at dksX3_in_0 11 rfl rfl)
theorem dX3_in_14 : decode cX3_in 14 = .ok (.iconst 0, 1) := dk_3 (dk_at dksX3_in_0 14 rfl rfl)
theorem dX3_in_15 : decode cX3_in 15 = .ok (.ireturn, 1) := dk_172 (dk_at dksX3_in_0 15 rfl rfl)
abbrev cX3_fails : ByteArray := prog_22_method_4_code
def yX3_fails : MethodName := ⟨RX3, "fails", "(I)I"⟩
def dkwX3_fails_0 : List UInt8 := [42, 27, 181, 0, 115, 3, 172]
abbrev dktX3_fails_0 : List UInt8 := dkwX3_fails_0 ++ []
theorem dksX3_fails_0 : cX3_fails.data.toList.drop 0 = dktX3_fails_0 := by decide +kernel
theorem dX3_fails_0 : decode cX3_fails 0 = .ok (.aload_n 0, 1) := dk_42 (dk_at dksX3_fails_0 0 rfl rfl)
theorem dX3_fails_1 : decode cX3_fails 1 = .ok (.iload_n 1, 1) := dk_27 (dk_at dksX3_fails_0 1 rfl rfl)
theorem dX3_fails_2 : decode cX3_fails 2 = .ok (.putfield 115, 3) := dk_181 0 115 (dk_at dksX3_fails_0 2 rfl rfl)
theorem dX3_fails_5 : decode cX3_fails 5 = .ok (.iconst 0, 1) := dk_3 (dk_at dksX3_fails_0 5 rfl rfl)
theorem dX3_fails_6 : decode cX3_fails 6 = .ok (.ireturn, 1) := dk_172 (dk_at dksX3_fails_0 6 rfl rfl)
abbrev cX3_remembers : ByteArray := prog_22_method_9_code
def yX3_remembers : MethodName := ⟨RX3, "remembers", "(I)V"⟩
def dkwX3_remembers_7 : List UInt8 := [181, 0, 123, 177]
abbrev dktX3_remembers_7 : List UInt8 := dkwX3_remembers_7 ++ []
def dkwX3_remembers_6 : List UInt8 := [180, 0, 7, 16, 24, 27, 104, 28, 96, 46, 79, 132, 2, 1, 167, 255, 222, 42, 89, 180, 0, 123, 4, 96]
abbrev dktX3_remembers_6 : List UInt8 := dkwX3_remembers_6 ++ dktX3_remembers_7
def dkwX3_remembers_5 : List UInt8 := [3, 61, 28, 16, 24, 162, 0, 34, 42, 180, 0, 30, 16, 24, 42, 180, 0, 123, 104, 28, 96, 42]
abbrev dktX3_remembers_5 : List UInt8 := dkwX3_remembers_5 ++ dktX3_remembers_6
def dkwX3_remembers_4 : List UInt8 := [180, 0, 24, 42, 180, 0, 123, 27, 79, 42, 180, 0, 27, 42, 180, 0, 123, 42, 180, 0, 13, 27, 46, 79]
abbrev dktX3_remembers_4 : List UInt8 := dkwX3_remembers_4 ++ dktX3_remembers_5
def dkwX3_remembers_3 : List UInt8 := [28, 16, 24, 96, 46, 79, 132, 2, 1, 167, 255, 231, 42, 89, 180, 0, 123, 4, 100, 181, 0, 123, 42]
abbrev dktX3_remembers_3 : List UInt8 := dkwX3_remembers_3 ++ dktX3_remembers_4
def dkwX3_remembers_2 : List UInt8 := [132, 2, 1, 167, 255, 219, 3, 61, 28, 17, 0, 168, 162, 0, 24, 42, 180, 0, 30, 28, 42, 180, 0, 30]
abbrev dktX3_remembers_2 : List UInt8 := dkwX3_remembers_2 ++ dktX3_remembers_3
def dkwX3_remembers_1 : List UInt8 := [180, 0, 24, 28, 4, 96, 46, 79, 42, 180, 0, 27, 28, 42, 180, 0, 27, 28, 4, 96, 46, 79]
abbrev dktX3_remembers_1 : List UInt8 := dkwX3_remembers_1 ++ dktX3_remembers_2
def dkwX3_remembers_0 : List UInt8 := [42, 180, 0, 123, 16, 8, 160, 0, 85, 3, 61, 28, 16, 7, 162, 0, 37, 42, 180, 0, 24, 28, 42]
abbrev dktX3_remembers_0 : List UInt8 := dkwX3_remembers_0 ++ dktX3_remembers_1
theorem dksX3_remembers_0 : cX3_remembers.data.toList.drop 0 = dktX3_remembers_0 := by decide +kernel
theorem dksX3_remembers_1 : cX3_remembers.data.toList.drop 23 = dktX3_remembers_1 := dk_seg dksX3_remembers_0 23 rfl rfl
theorem dksX3_remembers_2 : cX3_remembers.data.toList.drop 45 = dktX3_remembers_2 := dk_seg dksX3_remembers_1 22 rfl rfl
theorem dksX3_remembers_3 : cX3_remembers.data.toList.drop 69 = dktX3_remembers_3 := dk_seg dksX3_remembers_2 24 rfl rfl
theorem dksX3_remembers_4 : cX3_remembers.data.toList.drop 92 = dktX3_remembers_4 := dk_seg dksX3_remembers_3 23 rfl rfl
theorem dksX3_remembers_5 : cX3_remembers.data.toList.drop 116 = dktX3_remembers_5 := dk_seg dksX3_remembers_4 24 rfl rfl
theorem dksX3_remembers_6 : cX3_remembers.data.toList.drop 138 = dktX3_remembers_6 := dk_seg dksX3_remembers_5 22 rfl rfl
theorem dksX3_remembers_7 : cX3_remembers.data.toList.drop 162 = dktX3_remembers_7 := dk_seg dksX3_remembers_6 24 rfl rfl
theorem dX3_remembers_0 : decode cX3_remembers 0 = .ok (.aload_n 0, 1) := dk_42 (dk_at dksX3_remembers_0 0 rfl rfl)
theorem dX3_remembers_1 : decode cX3_remembers 1 = .ok (.getfield 123, 3) := dk_180 0 123 (dk_at dksX3_remembers_0 1 rfl rfl)
theorem dX3_remembers_4 : decode cX3_remembers 4 = .ok (.bipush 8, 2) := dk_16 8 (dk_at dksX3_remembers_0 4 rfl rfl)
theorem dX3_remembers_6 : decode cX3_remembers 6 = .ok (.if_icmp .ne 85, 3) := dk_160 0 85 (dk_at dksX3_remembers_0 6 rfl rfl)
theorem dX3_remembers_9 : decode cX3_remembers 9 = .ok (.iconst 0, 1) := dk_3 (dk_at dksX3_remembers_0 9 rfl rfl)
theorem dX3_remembers_10 : decode cX3_remembers 10 = .ok (.istore_n 2, 1) := dk_61 (dk_at dksX3_remembers_0 10 rfl rfl)
theorem dX3_remembers_11 : decode cX3_remembers 11 = .ok (.iload_n 2, 1) := dk_28 (dk_at dksX3_remembers_0 11 rfl rfl)
theorem dX3_remembers_12 : decode cX3_remembers 12 = .ok (.bipush 7, 2) := dk_16 7 (dk_at dksX3_remembers_0 12 rfl rfl)
theorem dX3_remembers_14 : decode cX3_remembers 14 = .ok (.if_icmp .ge 37, 3) := dk_162 0 37 (dk_at dksX3_remembers_0 14 rfl rfl)
theorem dX3_remembers_17 : decode cX3_remembers 17 = .ok (.aload_n 0, 1) := dk_42 (dk_at dksX3_remembers_0 17 rfl rfl)
theorem dX3_remembers_18 : decode cX3_remembers 18 = .ok (.getfield 24, 3) := dk_180 0 24 (dk_at dksX3_remembers_0 18 rfl rfl)
theorem dX3_remembers_21 : decode cX3_remembers 21 = .ok (.iload_n 2, 1) := dk_28 (dk_at dksX3_remembers_0 21 rfl rfl)
theorem dX3_remembers_22 : decode cX3_remembers 22 = .ok (.aload_n 0, 1) := dk_42 (dk_at dksX3_remembers_0 22 rfl rfl)
theorem dX3_remembers_23 : decode cX3_remembers 23 = .ok (.getfield 24, 3) := dk_180 0 24 (dk_at dksX3_remembers_1 0 rfl rfl)
theorem dX3_remembers_26 : decode cX3_remembers 26 = .ok (.iload_n 2, 1) := dk_28 (dk_at dksX3_remembers_1 3 rfl rfl)
theorem dX3_remembers_27 : decode cX3_remembers 27 = .ok (.iconst 1, 1) := dk_4 (dk_at dksX3_remembers_1 4 rfl rfl)
theorem dX3_remembers_28 : decode cX3_remembers 28 = .ok (.iadd, 1) := dk_96 (dk_at dksX3_remembers_1 5 rfl rfl)
theorem dX3_remembers_29 : decode cX3_remembers 29 = .ok (.iaload, 1) := dk_46 (dk_at dksX3_remembers_1 6 rfl rfl)
theorem dX3_remembers_30 : decode cX3_remembers 30 = .ok (.iastore, 1) := dk_79 (dk_at dksX3_remembers_1 7 rfl rfl)
theorem dX3_remembers_31 : decode cX3_remembers 31 = .ok (.aload_n 0, 1) := dk_42 (dk_at dksX3_remembers_1 8 rfl rfl)
theorem dX3_remembers_32 : decode cX3_remembers 32 = .ok (.getfield 27, 3) := dk_180 0 27 (dk_at dksX3_remembers_1 9 rfl rfl)
theorem dX3_remembers_35 : decode cX3_remembers 35 = .ok (.iload_n 2, 1) := dk_28 (dk_at dksX3_remembers_1 12 rfl rfl)
theorem dX3_remembers_36 : decode cX3_remembers 36 = .ok (.aload_n 0, 1) := dk_42 (dk_at dksX3_remembers_1 13 rfl rfl)
theorem dX3_remembers_37 : decode cX3_remembers 37 = .ok (.getfield 27, 3) := dk_180 0 27 (dk_at dksX3_remembers_1 14 rfl rfl)
theorem dX3_remembers_40 : decode cX3_remembers 40 = .ok (.iload_n 2, 1) := dk_28 (dk_at dksX3_remembers_1 17 rfl rfl)
theorem dX3_remembers_41 : decode cX3_remembers 41 = .ok (.iconst 1, 1) := dk_4 (dk_at dksX3_remembers_1 18 rfl rfl)
theorem dX3_remembers_42 : decode cX3_remembers 42 = .ok (.iadd, 1) := dk_96 (dk_at dksX3_remembers_1 19 rfl rfl)
theorem dX3_remembers_43 : decode cX3_remembers 43 = .ok (.iaload, 1) := dk_46 (dk_at dksX3_remembers_1 20 rfl rfl)
theorem dX3_remembers_44 : decode cX3_remembers 44 = .ok (.iastore, 1) := dk_79 (dk_at dksX3_remembers_1 21 rfl rfl)
theorem dX3_remembers_45 : decode cX3_remembers 45 = .ok (.iinc 2 1, 3) := dk_132 2 1 (dk_at dksX3_remembers_2 0 rfl rfl)
theorem dX3_remembers_48 : decode cX3_remembers 48 = .ok (.goto (-37), 3) := dk_167 255 219 (dk_at dksX3_remembers_2 3 rfl rfl)
theorem dX3_remembers_51 : decode cX3_remembers 51 = .ok (.iconst 0, 1) := dk_3 (dk_at dksX3_remembers_2 6 rfl rfl)
theorem dX3_remembers_52 : decode cX3_remembers 52 = .ok (.istore_n 2, 1) := dk_61 (dk_at dksX3_remembers_2 7 rfl rfl)
theorem dX3_remembers_53 : decode cX3_remembers 53 = .ok (.iload_n 2, 1) := dk_28 (dk_at dksX3_remembers_2 8 rfl rfl)
theorem dX3_remembers_54 : decode cX3_remembers 54 = .ok (.sipush 168, 3) := dk_17 0 168 (dk_at dksX3_remembers_2 9 rfl rfl)
theorem dX3_remembers_57 : decode cX3_remembers 57 = .ok (.if_icmp .ge 24, 3) := dk_162 0 24 (dk_at dksX3_remembers_2 12 rfl rfl)
theorem dX3_remembers_60 : decode cX3_remembers 60 = .ok (.aload_n 0, 1) := dk_42 (dk_at dksX3_remembers_2 15 rfl rfl)
theorem dX3_remembers_61 : decode cX3_remembers 61 = .ok (.getfield 30, 3) := dk_180 0 30 (dk_at dksX3_remembers_2 16 rfl rfl)
theorem dX3_remembers_64 : decode cX3_remembers 64 = .ok (.iload_n 2, 1) := dk_28 (dk_at dksX3_remembers_2 19 rfl rfl)
theorem dX3_remembers_65 : decode cX3_remembers 65 = .ok (.aload_n 0, 1) := dk_42 (dk_at dksX3_remembers_2 20 rfl rfl)
theorem dX3_remembers_66 : decode cX3_remembers 66 = .ok (.getfield 30, 3) := dk_180 0 30 (dk_at dksX3_remembers_2 21 rfl rfl)
theorem dX3_remembers_69 : decode cX3_remembers 69 = .ok (.iload_n 2, 1) := dk_28 (dk_at dksX3_remembers_3 0 rfl rfl)
theorem dX3_remembers_70 : decode cX3_remembers 70 = .ok (.bipush 24, 2) := dk_16 24 (dk_at dksX3_remembers_3 1 rfl rfl)
theorem dX3_remembers_72 : decode cX3_remembers 72 = .ok (.iadd, 1) := dk_96 (dk_at dksX3_remembers_3 3 rfl rfl)
theorem dX3_remembers_73 : decode cX3_remembers 73 = .ok (.iaload, 1) := dk_46 (dk_at dksX3_remembers_3 4 rfl rfl)
theorem dX3_remembers_74 : decode cX3_remembers 74 = .ok (.iastore, 1) := dk_79 (dk_at dksX3_remembers_3 5 rfl rfl)
theorem dX3_remembers_75 : decode cX3_remembers 75 = .ok (.iinc 2 1, 3) := dk_132 2 1 (dk_at dksX3_remembers_3 6 rfl rfl)
theorem dX3_remembers_78 : decode cX3_remembers 78 = .ok (.goto (-25), 3) := dk_167 255 231 (dk_at dksX3_remembers_3 9 rfl rfl)
theorem dX3_remembers_81 : decode cX3_remembers 81 = .ok (.aload_n 0, 1) := dk_42 (dk_at dksX3_remembers_3 12 rfl rfl)
theorem dX3_remembers_82 : decode cX3_remembers 82 = .ok (.dup, 1) := dk_89 (dk_at dksX3_remembers_3 13 rfl rfl)
theorem dX3_remembers_83 : decode cX3_remembers 83 = .ok (.getfield 123, 3) := dk_180 0 123 (dk_at dksX3_remembers_3 14 rfl rfl)
theorem dX3_remembers_86 : decode cX3_remembers 86 = .ok (.iconst 1, 1) := dk_4 (dk_at dksX3_remembers_3 17 rfl rfl)
theorem dX3_remembers_87 : decode cX3_remembers 87 = .ok (.isub, 1) := dk_100 (dk_at dksX3_remembers_3 18 rfl rfl)
theorem dX3_remembers_88 : decode cX3_remembers 88 = .ok (.putfield 123, 3) := dk_181 0 123 (dk_at dksX3_remembers_3 19 rfl rfl)
theorem dX3_remembers_91 : decode cX3_remembers 91 = .ok (.aload_n 0, 1) := dk_42 (dk_at dksX3_remembers_3 22 rfl rfl)
theorem dX3_remembers_92 : decode cX3_remembers 92 = .ok (.getfield 24, 3) := dk_180 0 24 (dk_at dksX3_remembers_4 0 rfl rfl)
theorem dX3_remembers_95 : decode cX3_remembers 95 = .ok (.aload_n 0, 1) := dk_42 (dk_at dksX3_remembers_4 3 rfl rfl)
theorem dX3_remembers_96 : decode cX3_remembers 96 = .ok (.getfield 123, 3) := dk_180 0 123 (dk_at dksX3_remembers_4 4 rfl rfl)
theorem dX3_remembers_99 : decode cX3_remembers 99 = .ok (.iload_n 1, 1) := dk_27 (dk_at dksX3_remembers_4 7 rfl rfl)
theorem dX3_remembers_100 : decode cX3_remembers 100 = .ok (.iastore, 1) := dk_79 (dk_at dksX3_remembers_4 8 rfl rfl)
theorem dX3_remembers_101 : decode cX3_remembers 101 = .ok (.aload_n 0, 1) := dk_42 (dk_at dksX3_remembers_4 9 rfl rfl)
theorem dX3_remembers_102 : decode cX3_remembers 102 = .ok (.getfield 27, 3) := dk_180 0 27 (dk_at dksX3_remembers_4 10 rfl rfl)
theorem dX3_remembers_105 : decode cX3_remembers 105 = .ok (.aload_n 0, 1) := dk_42 (dk_at dksX3_remembers_4 13 rfl rfl)
theorem dX3_remembers_106 : decode cX3_remembers 106 = .ok (.getfield 123, 3) := dk_180 0 123 (dk_at dksX3_remembers_4 14 rfl rfl)
theorem dX3_remembers_109 : decode cX3_remembers 109 = .ok (.aload_n 0, 1) := dk_42 (dk_at dksX3_remembers_4 17 rfl rfl)
theorem dX3_remembers_110 : decode cX3_remembers 110 = .ok (.getfield 13, 3) := dk_180 0 13 (dk_at dksX3_remembers_4 18 rfl rfl)
theorem dX3_remembers_113 : decode cX3_remembers 113 = .ok (.iload_n 1, 1) := dk_27 (dk_at dksX3_remembers_4 21 rfl rfl)
theorem dX3_remembers_114 : decode cX3_remembers 114 = .ok (.iaload, 1) := dk_46 (dk_at dksX3_remembers_4 22 rfl rfl)
theorem dX3_remembers_115 : decode cX3_remembers 115 = .ok (.iastore, 1) := dk_79 (dk_at dksX3_remembers_4 23 rfl rfl)
theorem dX3_remembers_116 : decode cX3_remembers 116 = .ok (.iconst 0, 1) := dk_3 (dk_at dksX3_remembers_5 0 rfl rfl)
theorem dX3_remembers_117 : decode cX3_remembers 117 = .ok (.istore_n 2, 1) := dk_61 (dk_at dksX3_remembers_5 1 rfl rfl)
theorem dX3_remembers_118 : decode cX3_remembers 118 = .ok (.iload_n 2, 1) := dk_28 (dk_at dksX3_remembers_5 2 rfl rfl)
theorem dX3_remembers_119 : decode cX3_remembers 119 = .ok (.bipush 24, 2) := dk_16 24 (dk_at dksX3_remembers_5 3 rfl rfl)
theorem dX3_remembers_121 : decode cX3_remembers 121 = .ok (.if_icmp .ge 34, 3) := dk_162 0 34 (dk_at dksX3_remembers_5 5 rfl rfl)
theorem dX3_remembers_124 : decode cX3_remembers 124 = .ok (.aload_n 0, 1) := dk_42 (dk_at dksX3_remembers_5 8 rfl rfl)
theorem dX3_remembers_125 : decode cX3_remembers 125 = .ok (.getfield 30, 3) := dk_180 0 30 (dk_at dksX3_remembers_5 9 rfl rfl)
theorem dX3_remembers_128 : decode cX3_remembers 128 = .ok (.bipush 24, 2) := dk_16 24 (dk_at dksX3_remembers_5 12 rfl rfl)
theorem dX3_remembers_130 : decode cX3_remembers 130 = .ok (.aload_n 0, 1) := dk_42 (dk_at dksX3_remembers_5 14 rfl rfl)
theorem dX3_remembers_131 : decode cX3_remembers 131 = .ok (.getfield 123, 3) := dk_180 0 123 (dk_at dksX3_remembers_5 15 rfl rfl)
theorem dX3_remembers_134 : decode cX3_remembers 134 = .ok (.imul, 1) := dk_104 (dk_at dksX3_remembers_5 18 rfl rfl)
theorem dX3_remembers_135 : decode cX3_remembers 135 = .ok (.iload_n 2, 1) := dk_28 (dk_at dksX3_remembers_5 19 rfl rfl)
theorem dX3_remembers_136 : decode cX3_remembers 136 = .ok (.iadd, 1) := dk_96 (dk_at dksX3_remembers_5 20 rfl rfl)
theorem dX3_remembers_137 : decode cX3_remembers 137 = .ok (.aload_n 0, 1) := dk_42 (dk_at dksX3_remembers_5 21 rfl rfl)
theorem dX3_remembers_138 : decode cX3_remembers 138 = .ok (.getfield 7, 3) := dk_180 0 7 (dk_at dksX3_remembers_6 0 rfl rfl)
theorem dX3_remembers_141 : decode cX3_remembers 141 = .ok (.bipush 24, 2) := dk_16 24 (dk_at dksX3_remembers_6 3 rfl rfl)
theorem dX3_remembers_143 : decode cX3_remembers 143 = .ok (.iload_n 1, 1) := dk_27 (dk_at dksX3_remembers_6 5 rfl rfl)
theorem dX3_remembers_144 : decode cX3_remembers 144 = .ok (.imul, 1) := dk_104 (dk_at dksX3_remembers_6 6 rfl rfl)
theorem dX3_remembers_145 : decode cX3_remembers 145 = .ok (.iload_n 2, 1) := dk_28 (dk_at dksX3_remembers_6 7 rfl rfl)
theorem dX3_remembers_146 : decode cX3_remembers 146 = .ok (.iadd, 1) := dk_96 (dk_at dksX3_remembers_6 8 rfl rfl)
theorem dX3_remembers_147 : decode cX3_remembers 147 = .ok (.iaload, 1) := dk_46 (dk_at dksX3_remembers_6 9 rfl rfl)
theorem dX3_remembers_148 : decode cX3_remembers 148 = .ok (.iastore, 1) := dk_79 (dk_at dksX3_remembers_6 10 rfl rfl)
theorem dX3_remembers_149 : decode cX3_remembers 149 = .ok (.iinc 2 1, 3) := dk_132 2 1 (dk_at dksX3_remembers_6 11 rfl rfl)
theorem dX3_remembers_152 : decode cX3_remembers 152 = .ok (.goto (-34), 3) := dk_167 255 222 (dk_at dksX3_remembers_6 14 rfl rfl)
theorem dX3_remembers_155 : decode cX3_remembers 155 = .ok (.aload_n 0, 1) := dk_42 (dk_at dksX3_remembers_6 17 rfl rfl)
theorem dX3_remembers_156 : decode cX3_remembers 156 = .ok (.dup, 1) := dk_89 (dk_at dksX3_remembers_6 18 rfl rfl)
theorem dX3_remembers_157 : decode cX3_remembers 157 = .ok (.getfield 123, 3) := dk_180 0 123 (dk_at dksX3_remembers_6 19 rfl rfl)
theorem dX3_remembers_160 : decode cX3_remembers 160 = .ok (.iconst 1, 1) := dk_4 (dk_at dksX3_remembers_6 22 rfl rfl)
theorem dX3_remembers_161 : decode cX3_remembers 161 = .ok (.iadd, 1) := dk_96 (dk_at dksX3_remembers_6 23 rfl rfl)
theorem dX3_remembers_162 : decode cX3_remembers 162 = .ok (.putfield 123, 3) := dk_181 0 123 (dk_at dksX3_remembers_7 0 rfl rfl)
theorem dX3_remembers_165 : decode cX3_remembers 165 = .ok (.return_, 1) := dk_177 (dk_at dksX3_remembers_7 3 rfl rfl)
abbrev cX3_done : ByteArray := prog_22_method_5_code
def yX3_done : MethodName := ⟨RX3, "done", "(I)I"⟩
def dkwX3_done_0 : List UInt8 := [42, 3, 181, 0, 115, 27, 172]
abbrev dktX3_done_0 : List UInt8 := dkwX3_done_0 ++ []
theorem dksX3_done_0 : cX3_done.data.toList.drop 0 = dktX3_done_0 := by decide +kernel
theorem dX3_done_0 : decode cX3_done 0 = .ok (.aload_n 0, 1) := dk_42 (dk_at dksX3_done_0 0 rfl rfl)
theorem dX3_done_1 : decode cX3_done 1 = .ok (.iconst 0, 1) := dk_3 (dk_at dksX3_done_0 1 rfl rfl)
theorem dX3_done_2 : decode cX3_done 2 = .ok (.putfield 115, 3) := dk_181 0 115 (dk_at dksX3_done_0 2 rfl rfl)
theorem dX3_done_5 : decode cX3_done 5 = .ok (.iload_n 1, 1) := dk_27 (dk_at dksX3_done_0 5 rfl rfl)
theorem dX3_done_6 : decode cX3_done 6 = .ok (.ireturn, 1) := dk_172 (dk_at dksX3_done_0 6 rfl rfl)
abbrev cX3_insert : ByteArray := prog_22_method_12_code
def yX3_insert : MethodName := ⟨RX3, "insert", "(III)I"⟩
def dkwX3_insert_6 : List UInt8 := [182, 0, 138, 172]
abbrev dktX3_insert_6 : List UInt8 := dkwX3_insert_6 ++ []
def dkwX3_insert_5 : List UInt8 := [104, 28, 96, 29, 79, 42, 180, 0, 13, 27, 92, 46, 4, 96, 79, 42, 42, 180, 0, 13, 27, 46]
abbrev dktX3_insert_5 : List UInt8 := dkwX3_insert_5 ++ dktX3_insert_6
def dkwX3_insert_4 : List UInt8 := [16, 24, 27, 104, 21, 4, 96, 4, 100, 46, 79, 132, 4, 255, 167, 255, 221, 42, 180, 0, 7, 16, 24, 27]
abbrev dktX3_insert_4 : List UInt8 := dkwX3_insert_4 ++ dktX3_insert_5
def dkwX3_insert_3 : List UInt8 := [54, 4, 21, 4, 28, 164, 0, 35, 42, 180, 0, 7, 16, 24, 27, 104, 21, 4, 96, 42, 180, 0, 7]
abbrev dktX3_insert_3 : List UInt8 := dkwX3_insert_3 ++ dktX3_insert_4
def dkwX3_insert_2 : List UInt8 := [184, 0, 119, 154, 0, 9, 42, 6, 182, 0, 130, 172, 42, 27, 182, 0, 134, 42, 180, 0, 13, 27, 46]
abbrev dktX3_insert_2 : List UInt8 := dkwX3_insert_2 ++ dktX3_insert_3
def dkwX3_insert_1 : List UInt8 := [180, 0, 13, 27, 46, 16, 24, 160, 0, 9, 42, 5, 182, 0, 130, 172, 28, 3, 42, 180, 0, 13, 27, 46]
abbrev dktX3_insert_1 : List UInt8 := dkwX3_insert_1 ++ dktX3_insert_2
def dkwX3_insert_0 : List UInt8 := [27, 184, 0, 126, 153, 0, 13, 29, 3, 16, 25, 184, 0, 119, 154, 0, 9, 42, 4, 182, 0, 130, 172, 42]
abbrev dktX3_insert_0 : List UInt8 := dkwX3_insert_0 ++ dktX3_insert_1
theorem dksX3_insert_0 : cX3_insert.data.toList.drop 0 = dktX3_insert_0 := by decide +kernel
theorem dksX3_insert_1 : cX3_insert.data.toList.drop 24 = dktX3_insert_1 := dk_seg dksX3_insert_0 24 rfl rfl
theorem dksX3_insert_2 : cX3_insert.data.toList.drop 48 = dktX3_insert_2 := dk_seg dksX3_insert_1 24 rfl rfl
theorem dksX3_insert_3 : cX3_insert.data.toList.drop 71 = dktX3_insert_3 := dk_seg dksX3_insert_2 23 rfl rfl
theorem dksX3_insert_4 : cX3_insert.data.toList.drop 94 = dktX3_insert_4 := dk_seg dksX3_insert_3 23 rfl rfl
theorem dksX3_insert_5 : cX3_insert.data.toList.drop 118 = dktX3_insert_5 := dk_seg dksX3_insert_4 24 rfl rfl
theorem dksX3_insert_6 : cX3_insert.data.toList.drop 140 = dktX3_insert_6 := dk_seg dksX3_insert_5 22 rfl rfl
theorem dX3_insert_0 : decode cX3_insert 0 = .ok (.iload_n 1, 1) := dk_27 (dk_at dksX3_insert_0 0 rfl rfl)
theorem dX3_insert_1 : decode cX3_insert 1 = .ok (.invokestatic 126, 3) := dk_184 0 126 (dk_at dksX3_insert_0 1 rfl rfl)
theorem dX3_insert_4 : decode cX3_insert 4 = .ok (.ifCond .eq 13, 3) := dk_153 0 13 (dk_at dksX3_insert_0 4 rfl rfl)
theorem dX3_insert_7 : decode cX3_insert 7 = .ok (.iload_n 3, 1) := dk_29 (dk_at dksX3_insert_0 7 rfl rfl)
theorem dX3_insert_8 : decode cX3_insert 8 = .ok (.iconst 0, 1) := dk_3 (dk_at dksX3_insert_0 8 rfl rfl)
theorem dX3_insert_9 : decode cX3_insert 9 = .ok (.bipush 25, 2) := dk_16 25 (dk_at dksX3_insert_0 9 rfl rfl)
theorem dX3_insert_11 : decode cX3_insert 11 = .ok (.invokestatic 119, 3) := dk_184 0 119 (dk_at dksX3_insert_0 11 rfl rfl)
theorem dX3_insert_14 : decode cX3_insert 14 = .ok (.ifCond .ne 9, 3) := dk_154 0 9 (dk_at dksX3_insert_0 14 rfl rfl)
theorem dX3_insert_17 : decode cX3_insert 17 = .ok (.aload_n 0, 1) := dk_42 (dk_at dksX3_insert_0 17 rfl rfl)
theorem dX3_insert_18 : decode cX3_insert 18 = .ok (.iconst 1, 1) := dk_4 (dk_at dksX3_insert_0 18 rfl rfl)
theorem dX3_insert_19 : decode cX3_insert 19 = .ok (.invokevirtual 130, 3) := dk_182 0 130 (dk_at dksX3_insert_0 19 rfl rfl)
theorem dX3_insert_22 : decode cX3_insert 22 = .ok (.ireturn, 1) := dk_172 (dk_at dksX3_insert_0 22 rfl rfl)
theorem dX3_insert_23 : decode cX3_insert 23 = .ok (.aload_n 0, 1) := dk_42 (dk_at dksX3_insert_0 23 rfl rfl)
theorem dX3_insert_24 : decode cX3_insert 24 = .ok (.getfield 13, 3) := dk_180 0 13 (dk_at dksX3_insert_1 0 rfl rfl)
theorem dX3_insert_27 : decode cX3_insert 27 = .ok (.iload_n 1, 1) := dk_27 (dk_at dksX3_insert_1 3 rfl rfl)
theorem dX3_insert_28 : decode cX3_insert 28 = .ok (.iaload, 1) := dk_46 (dk_at dksX3_insert_1 4 rfl rfl)
theorem dX3_insert_29 : decode cX3_insert 29 = .ok (.bipush 24, 2) := dk_16 24 (dk_at dksX3_insert_1 5 rfl rfl)
theorem dX3_insert_31 : decode cX3_insert 31 = .ok (.if_icmp .ne 9, 3) := dk_160 0 9 (dk_at dksX3_insert_1 7 rfl rfl)
theorem dX3_insert_34 : decode cX3_insert 34 = .ok (.aload_n 0, 1) := dk_42 (dk_at dksX3_insert_1 10 rfl rfl)
theorem dX3_insert_35 : decode cX3_insert 35 = .ok (.iconst 2, 1) := dk_5 (dk_at dksX3_insert_1 11 rfl rfl)
theorem dX3_insert_36 : decode cX3_insert 36 = .ok (.invokevirtual 130, 3) := dk_182 0 130 (dk_at dksX3_insert_1 12 rfl rfl)
theorem dX3_insert_39 : decode cX3_insert 39 = .ok (.ireturn, 1) := dk_172 (dk_at dksX3_insert_1 15 rfl rfl)
theorem dX3_insert_40 : decode cX3_insert 40 = .ok (.iload_n 2, 1) := dk_28 (dk_at dksX3_insert_1 16 rfl rfl)
theorem dX3_insert_41 : decode cX3_insert 41 = .ok (.iconst 0, 1) := dk_3 (dk_at dksX3_insert_1 17 rfl rfl)
theorem dX3_insert_42 : decode cX3_insert 42 = .ok (.aload_n 0, 1) := dk_42 (dk_at dksX3_insert_1 18 rfl rfl)
theorem dX3_insert_43 : decode cX3_insert 43 = .ok (.getfield 13, 3) := dk_180 0 13 (dk_at dksX3_insert_1 19 rfl rfl)
theorem dX3_insert_46 : decode cX3_insert 46 = .ok (.iload_n 1, 1) := dk_27 (dk_at dksX3_insert_1 22 rfl rfl)
theorem dX3_insert_47 : decode cX3_insert 47 = .ok (.iaload, 1) := dk_46 (dk_at dksX3_insert_1 23 rfl rfl)
theorem dX3_insert_48 : decode cX3_insert 48 = .ok (.invokestatic 119, 3) := dk_184 0 119 (dk_at dksX3_insert_2 0 rfl rfl)
theorem dX3_insert_51 : decode cX3_insert 51 = .ok (.ifCond .ne 9, 3) := dk_154 0 9 (dk_at dksX3_insert_2 3 rfl rfl)
theorem dX3_insert_54 : decode cX3_insert 54 = .ok (.aload_n 0, 1) := dk_42 (dk_at dksX3_insert_2 6 rfl rfl)
theorem dX3_insert_55 : decode cX3_insert 55 = .ok (.iconst 3, 1) := dk_6 (dk_at dksX3_insert_2 7 rfl rfl)
theorem dX3_insert_56 : decode cX3_insert 56 = .ok (.invokevirtual 130, 3) := dk_182 0 130 (dk_at dksX3_insert_2 8 rfl rfl)
theorem dX3_insert_59 : decode cX3_insert 59 = .ok (.ireturn, 1) := dk_172 (dk_at dksX3_insert_2 11 rfl rfl)
theorem dX3_insert_60 : decode cX3_insert 60 = .ok (.aload_n 0, 1) := dk_42 (dk_at dksX3_insert_2 12 rfl rfl)
theorem dX3_insert_61 : decode cX3_insert 61 = .ok (.iload_n 1, 1) := dk_27 (dk_at dksX3_insert_2 13 rfl rfl)
theorem dX3_insert_62 : decode cX3_insert 62 = .ok (.invokevirtual 134, 3) := dk_182 0 134 (dk_at dksX3_insert_2 14 rfl rfl)
theorem dX3_insert_65 : decode cX3_insert 65 = .ok (.aload_n 0, 1) := dk_42 (dk_at dksX3_insert_2 17 rfl rfl)
theorem dX3_insert_66 : decode cX3_insert 66 = .ok (.getfield 13, 3) := dk_180 0 13 (dk_at dksX3_insert_2 18 rfl rfl)
theorem dX3_insert_69 : decode cX3_insert 69 = .ok (.iload_n 1, 1) := dk_27 (dk_at dksX3_insert_2 21 rfl rfl)
theorem dX3_insert_70 : decode cX3_insert 70 = .ok (.iaload, 1) := dk_46 (dk_at dksX3_insert_2 22 rfl rfl)
theorem dX3_insert_71 : decode cX3_insert 71 = .ok (.istore 4, 2) := dk_54 4 (dk_at dksX3_insert_3 0 rfl rfl)
theorem dX3_insert_73 : decode cX3_insert 73 = .ok (.iload 4, 2) := dk_21 4 (dk_at dksX3_insert_3 2 rfl rfl)
theorem dX3_insert_75 : decode cX3_insert 75 = .ok (.iload_n 2, 1) := dk_28 (dk_at dksX3_insert_3 4 rfl rfl)
theorem dX3_insert_76 : decode cX3_insert 76 = .ok (.if_icmp .le 35, 3) := dk_164 0 35 (dk_at dksX3_insert_3 5 rfl rfl)
theorem dX3_insert_79 : decode cX3_insert 79 = .ok (.aload_n 0, 1) := dk_42 (dk_at dksX3_insert_3 8 rfl rfl)
theorem dX3_insert_80 : decode cX3_insert 80 = .ok (.getfield 7, 3) := dk_180 0 7 (dk_at dksX3_insert_3 9 rfl rfl)
theorem dX3_insert_83 : decode cX3_insert 83 = .ok (.bipush 24, 2) := dk_16 24 (dk_at dksX3_insert_3 12 rfl rfl)
theorem dX3_insert_85 : decode cX3_insert 85 = .ok (.iload_n 1, 1) := dk_27 (dk_at dksX3_insert_3 14 rfl rfl)
theorem dX3_insert_86 : decode cX3_insert 86 = .ok (.imul, 1) := dk_104 (dk_at dksX3_insert_3 15 rfl rfl)
theorem dX3_insert_87 : decode cX3_insert 87 = .ok (.iload 4, 2) := dk_21 4 (dk_at dksX3_insert_3 16 rfl rfl)
theorem dX3_insert_89 : decode cX3_insert 89 = .ok (.iadd, 1) := dk_96 (dk_at dksX3_insert_3 18 rfl rfl)
theorem dX3_insert_90 : decode cX3_insert 90 = .ok (.aload_n 0, 1) := dk_42 (dk_at dksX3_insert_3 19 rfl rfl)
theorem dX3_insert_91 : decode cX3_insert 91 = .ok (.getfield 7, 3) := dk_180 0 7 (dk_at dksX3_insert_3 20 rfl rfl)
theorem dX3_insert_94 : decode cX3_insert 94 = .ok (.bipush 24, 2) := dk_16 24 (dk_at dksX3_insert_4 0 rfl rfl)
theorem dX3_insert_96 : decode cX3_insert 96 = .ok (.iload_n 1, 1) := dk_27 (dk_at dksX3_insert_4 2 rfl rfl)
theorem dX3_insert_97 : decode cX3_insert 97 = .ok (.imul, 1) := dk_104 (dk_at dksX3_insert_4 3 rfl rfl)
theorem dX3_insert_98 : decode cX3_insert 98 = .ok (.iload 4, 2) := dk_21 4 (dk_at dksX3_insert_4 4 rfl rfl)
theorem dX3_insert_100 : decode cX3_insert 100 = .ok (.iadd, 1) := dk_96 (dk_at dksX3_insert_4 6 rfl rfl)
theorem dX3_insert_101 : decode cX3_insert 101 = .ok (.iconst 1, 1) := dk_4 (dk_at dksX3_insert_4 7 rfl rfl)
theorem dX3_insert_102 : decode cX3_insert 102 = .ok (.isub, 1) := dk_100 (dk_at dksX3_insert_4 8 rfl rfl)
theorem dX3_insert_103 : decode cX3_insert 103 = .ok (.iaload, 1) := dk_46 (dk_at dksX3_insert_4 9 rfl rfl)
theorem dX3_insert_104 : decode cX3_insert 104 = .ok (.iastore, 1) := dk_79 (dk_at dksX3_insert_4 10 rfl rfl)
theorem dX3_insert_105 : decode cX3_insert 105 = .ok (.iinc 4 (-1), 3) := dk_132 4 255 (dk_at dksX3_insert_4 11 rfl rfl)
theorem dX3_insert_108 : decode cX3_insert 108 = .ok (.goto (-35), 3) := dk_167 255 221 (dk_at dksX3_insert_4 14 rfl rfl)
theorem dX3_insert_111 : decode cX3_insert 111 = .ok (.aload_n 0, 1) := dk_42 (dk_at dksX3_insert_4 17 rfl rfl)
theorem dX3_insert_112 : decode cX3_insert 112 = .ok (.getfield 7, 3) := dk_180 0 7 (dk_at dksX3_insert_4 18 rfl rfl)
theorem dX3_insert_115 : decode cX3_insert 115 = .ok (.bipush 24, 2) := dk_16 24 (dk_at dksX3_insert_4 21 rfl rfl)
theorem dX3_insert_117 : decode cX3_insert 117 = .ok (.iload_n 1, 1) := dk_27 (dk_at dksX3_insert_4 23 rfl rfl)
theorem dX3_insert_118 : decode cX3_insert 118 = .ok (.imul, 1) := dk_104 (dk_at dksX3_insert_5 0 rfl rfl)
theorem dX3_insert_119 : decode cX3_insert 119 = .ok (.iload_n 2, 1) := dk_28 (dk_at dksX3_insert_5 1 rfl rfl)
theorem dX3_insert_120 : decode cX3_insert 120 = .ok (.iadd, 1) := dk_96 (dk_at dksX3_insert_5 2 rfl rfl)
theorem dX3_insert_121 : decode cX3_insert 121 = .ok (.iload_n 3, 1) := dk_29 (dk_at dksX3_insert_5 3 rfl rfl)
theorem dX3_insert_122 : decode cX3_insert 122 = .ok (.iastore, 1) := dk_79 (dk_at dksX3_insert_5 4 rfl rfl)
theorem dX3_insert_123 : decode cX3_insert 123 = .ok (.aload_n 0, 1) := dk_42 (dk_at dksX3_insert_5 5 rfl rfl)
theorem dX3_insert_124 : decode cX3_insert 124 = .ok (.getfield 13, 3) := dk_180 0 13 (dk_at dksX3_insert_5 6 rfl rfl)
theorem dX3_insert_127 : decode cX3_insert 127 = .ok (.iload_n 1, 1) := dk_27 (dk_at dksX3_insert_5 9 rfl rfl)
theorem dX3_insert_128 : decode cX3_insert 128 = .ok (.dup2, 1) := dk_92 (dk_at dksX3_insert_5 10 rfl rfl)
theorem dX3_insert_129 : decode cX3_insert 129 = .ok (.iaload, 1) := dk_46 (dk_at dksX3_insert_5 11 rfl rfl)
theorem dX3_insert_130 : decode cX3_insert 130 = .ok (.iconst 1, 1) := dk_4 (dk_at dksX3_insert_5 12 rfl rfl)
theorem dX3_insert_131 : decode cX3_insert 131 = .ok (.iadd, 1) := dk_96 (dk_at dksX3_insert_5 13 rfl rfl)
theorem dX3_insert_132 : decode cX3_insert 132 = .ok (.iastore, 1) := dk_79 (dk_at dksX3_insert_5 14 rfl rfl)
theorem dX3_insert_133 : decode cX3_insert 133 = .ok (.aload_n 0, 1) := dk_42 (dk_at dksX3_insert_5 15 rfl rfl)
theorem dX3_insert_134 : decode cX3_insert 134 = .ok (.aload_n 0, 1) := dk_42 (dk_at dksX3_insert_5 16 rfl rfl)
theorem dX3_insert_135 : decode cX3_insert 135 = .ok (.getfield 13, 3) := dk_180 0 13 (dk_at dksX3_insert_5 17 rfl rfl)
theorem dX3_insert_138 : decode cX3_insert 138 = .ok (.iload_n 1, 1) := dk_27 (dk_at dksX3_insert_5 20 rfl rfl)
theorem dX3_insert_139 : decode cX3_insert 139 = .ok (.iaload, 1) := dk_46 (dk_at dksX3_insert_5 21 rfl rfl)
theorem dX3_insert_140 : decode cX3_insert 140 = .ok (.invokevirtual 138, 3) := dk_182 0 138 (dk_at dksX3_insert_6 0 rfl rfl)
theorem dX3_insert_143 : decode cX3_insert 143 = .ok (.ireturn, 1) := dk_172 (dk_at dksX3_insert_6 3 rfl rfl)
abbrev cX3_delete : ByteArray := prog_22_method_13_code
def yX3_delete : MethodName := ⟨RX3, "delete", "(II)I"⟩
def dkwX3_delete_4 : List UInt8 := [21, 4, 96, 4, 96, 46, 79, 132, 4, 1, 167, 255, 216, 42, 29, 182, 0, 138, 172]
abbrev dktX3_delete_4 : List UInt8 := dkwX3_delete_4 ++ []
def dkwX3_delete_3 : List UInt8 := [27, 46, 162, 0, 35, 42, 180, 0, 7, 16, 24, 27, 104, 21, 4, 96, 42, 180, 0, 7, 16, 24, 27, 104]
abbrev dktX3_delete_3 : List UInt8 := dkwX3_delete_3 ++ dktX3_delete_4
def dkwX3_delete_2 : List UInt8 := [104, 28, 96, 46, 62, 42, 180, 0, 13, 27, 92, 46, 4, 100, 79, 28, 54, 4, 21, 4, 42, 180, 0, 13]
abbrev dktX3_delete_2 : List UInt8 := dkwX3_delete_2 ++ dktX3_delete_3
def dkwX3_delete_1 : List UInt8 := [184, 0, 119, 154, 0, 9, 42, 5, 182, 0, 130, 172, 42, 27, 182, 0, 134, 42, 180, 0, 7, 16, 24, 27]
abbrev dktX3_delete_1 : List UInt8 := dkwX3_delete_1 ++ dktX3_delete_2
def dkwX3_delete_0 : List UInt8 := [27, 184, 0, 126, 154, 0, 9, 42, 4, 182, 0, 130, 172, 28, 3, 42, 180, 0, 13, 27, 46, 4, 100]
abbrev dktX3_delete_0 : List UInt8 := dkwX3_delete_0 ++ dktX3_delete_1
theorem dksX3_delete_0 : cX3_delete.data.toList.drop 0 = dktX3_delete_0 := by decide +kernel
theorem dksX3_delete_1 : cX3_delete.data.toList.drop 23 = dktX3_delete_1 := dk_seg dksX3_delete_0 23 rfl rfl
theorem dksX3_delete_2 : cX3_delete.data.toList.drop 47 = dktX3_delete_2 := dk_seg dksX3_delete_1 24 rfl rfl
theorem dksX3_delete_3 : cX3_delete.data.toList.drop 71 = dktX3_delete_3 := dk_seg dksX3_delete_2 24 rfl rfl
theorem dksX3_delete_4 : cX3_delete.data.toList.drop 95 = dktX3_delete_4 := dk_seg dksX3_delete_3 24 rfl rfl
theorem dX3_delete_0 : decode cX3_delete 0 = .ok (.iload_n 1, 1) := dk_27 (dk_at dksX3_delete_0 0 rfl rfl)
theorem dX3_delete_1 : decode cX3_delete 1 = .ok (.invokestatic 126, 3) := dk_184 0 126 (dk_at dksX3_delete_0 1 rfl rfl)
theorem dX3_delete_4 : decode cX3_delete 4 = .ok (.ifCond .ne 9, 3) := dk_154 0 9 (dk_at dksX3_delete_0 4 rfl rfl)
theorem dX3_delete_7 : decode cX3_delete 7 = .ok (.aload_n 0, 1) := dk_42 (dk_at dksX3_delete_0 7 rfl rfl)
theorem dX3_delete_8 : decode cX3_delete 8 = .ok (.iconst 1, 1) := dk_4 (dk_at dksX3_delete_0 8 rfl rfl)
theorem dX3_delete_9 : decode cX3_delete 9 = .ok (.invokevirtual 130, 3) := dk_182 0 130 (dk_at dksX3_delete_0 9 rfl rfl)
theorem dX3_delete_12 : decode cX3_delete 12 = .ok (.ireturn, 1) := dk_172 (dk_at dksX3_delete_0 12 rfl rfl)
theorem dX3_delete_13 : decode cX3_delete 13 = .ok (.iload_n 2, 1) := dk_28 (dk_at dksX3_delete_0 13 rfl rfl)
theorem dX3_delete_14 : decode cX3_delete 14 = .ok (.iconst 0, 1) := dk_3 (dk_at dksX3_delete_0 14 rfl rfl)
theorem dX3_delete_15 : decode cX3_delete 15 = .ok (.aload_n 0, 1) := dk_42 (dk_at dksX3_delete_0 15 rfl rfl)
theorem dX3_delete_16 : decode cX3_delete 16 = .ok (.getfield 13, 3) := dk_180 0 13 (dk_at dksX3_delete_0 16 rfl rfl)
theorem dX3_delete_19 : decode cX3_delete 19 = .ok (.iload_n 1, 1) := dk_27 (dk_at dksX3_delete_0 19 rfl rfl)
theorem dX3_delete_20 : decode cX3_delete 20 = .ok (.iaload, 1) := dk_46 (dk_at dksX3_delete_0 20 rfl rfl)
theorem dX3_delete_21 : decode cX3_delete 21 = .ok (.iconst 1, 1) := dk_4 (dk_at dksX3_delete_0 21 rfl rfl)
theorem dX3_delete_22 : decode cX3_delete 22 = .ok (.isub, 1) := dk_100 (dk_at dksX3_delete_0 22 rfl rfl)
theorem dX3_delete_23 : decode cX3_delete 23 = .ok (.invokestatic 119, 3) := dk_184 0 119 (dk_at dksX3_delete_1 0 rfl rfl)
theorem dX3_delete_26 : decode cX3_delete 26 = .ok (.ifCond .ne 9, 3) := dk_154 0 9 (dk_at dksX3_delete_1 3 rfl rfl)
theorem dX3_delete_29 : decode cX3_delete 29 = .ok (.aload_n 0, 1) := dk_42 (dk_at dksX3_delete_1 6 rfl rfl)
theorem dX3_delete_30 : decode cX3_delete 30 = .ok (.iconst 2, 1) := dk_5 (dk_at dksX3_delete_1 7 rfl rfl)
theorem dX3_delete_31 : decode cX3_delete 31 = .ok (.invokevirtual 130, 3) := dk_182 0 130 (dk_at dksX3_delete_1 8 rfl rfl)
theorem dX3_delete_34 : decode cX3_delete 34 = .ok (.ireturn, 1) := dk_172 (dk_at dksX3_delete_1 11 rfl rfl)
theorem dX3_delete_35 : decode cX3_delete 35 = .ok (.aload_n 0, 1) := dk_42 (dk_at dksX3_delete_1 12 rfl rfl)
theorem dX3_delete_36 : decode cX3_delete 36 = .ok (.iload_n 1, 1) := dk_27 (dk_at dksX3_delete_1 13 rfl rfl)
theorem dX3_delete_37 : decode cX3_delete 37 = .ok (.invokevirtual 134, 3) := dk_182 0 134 (dk_at dksX3_delete_1 14 rfl rfl)
theorem dX3_delete_40 : decode cX3_delete 40 = .ok (.aload_n 0, 1) := dk_42 (dk_at dksX3_delete_1 17 rfl rfl)
theorem dX3_delete_41 : decode cX3_delete 41 = .ok (.getfield 7, 3) := dk_180 0 7 (dk_at dksX3_delete_1 18 rfl rfl)
theorem dX3_delete_44 : decode cX3_delete 44 = .ok (.bipush 24, 2) := dk_16 24 (dk_at dksX3_delete_1 21 rfl rfl)
theorem dX3_delete_46 : decode cX3_delete 46 = .ok (.iload_n 1, 1) := dk_27 (dk_at dksX3_delete_1 23 rfl rfl)
theorem dX3_delete_47 : decode cX3_delete 47 = .ok (.imul, 1) := dk_104 (dk_at dksX3_delete_2 0 rfl rfl)
theorem dX3_delete_48 : decode cX3_delete 48 = .ok (.iload_n 2, 1) := dk_28 (dk_at dksX3_delete_2 1 rfl rfl)
theorem dX3_delete_49 : decode cX3_delete 49 = .ok (.iadd, 1) := dk_96 (dk_at dksX3_delete_2 2 rfl rfl)
theorem dX3_delete_50 : decode cX3_delete 50 = .ok (.iaload, 1) := dk_46 (dk_at dksX3_delete_2 3 rfl rfl)
theorem dX3_delete_51 : decode cX3_delete 51 = .ok (.istore_n 3, 1) := dk_62 (dk_at dksX3_delete_2 4 rfl rfl)
theorem dX3_delete_52 : decode cX3_delete 52 = .ok (.aload_n 0, 1) := dk_42 (dk_at dksX3_delete_2 5 rfl rfl)
theorem dX3_delete_53 : decode cX3_delete 53 = .ok (.getfield 13, 3) := dk_180 0 13 (dk_at dksX3_delete_2 6 rfl rfl)
theorem dX3_delete_56 : decode cX3_delete 56 = .ok (.iload_n 1, 1) := dk_27 (dk_at dksX3_delete_2 9 rfl rfl)
theorem dX3_delete_57 : decode cX3_delete 57 = .ok (.dup2, 1) := dk_92 (dk_at dksX3_delete_2 10 rfl rfl)
theorem dX3_delete_58 : decode cX3_delete 58 = .ok (.iaload, 1) := dk_46 (dk_at dksX3_delete_2 11 rfl rfl)
theorem dX3_delete_59 : decode cX3_delete 59 = .ok (.iconst 1, 1) := dk_4 (dk_at dksX3_delete_2 12 rfl rfl)
theorem dX3_delete_60 : decode cX3_delete 60 = .ok (.isub, 1) := dk_100 (dk_at dksX3_delete_2 13 rfl rfl)
theorem dX3_delete_61 : decode cX3_delete 61 = .ok (.iastore, 1) := dk_79 (dk_at dksX3_delete_2 14 rfl rfl)
theorem dX3_delete_62 : decode cX3_delete 62 = .ok (.iload_n 2, 1) := dk_28 (dk_at dksX3_delete_2 15 rfl rfl)
theorem dX3_delete_63 : decode cX3_delete 63 = .ok (.istore 4, 2) := dk_54 4 (dk_at dksX3_delete_2 16 rfl rfl)
theorem dX3_delete_65 : decode cX3_delete 65 = .ok (.iload 4, 2) := dk_21 4 (dk_at dksX3_delete_2 18 rfl rfl)
theorem dX3_delete_67 : decode cX3_delete 67 = .ok (.aload_n 0, 1) := dk_42 (dk_at dksX3_delete_2 20 rfl rfl)
theorem dX3_delete_68 : decode cX3_delete 68 = .ok (.getfield 13, 3) := dk_180 0 13 (dk_at dksX3_delete_2 21 rfl rfl)
theorem dX3_delete_71 : decode cX3_delete 71 = .ok (.iload_n 1, 1) := dk_27 (dk_at dksX3_delete_3 0 rfl rfl)
theorem dX3_delete_72 : decode cX3_delete 72 = .ok (.iaload, 1) := dk_46 (dk_at dksX3_delete_3 1 rfl rfl)
theorem dX3_delete_73 : decode cX3_delete 73 = .ok (.if_icmp .ge 35, 3) := dk_162 0 35 (dk_at dksX3_delete_3 2 rfl rfl)
theorem dX3_delete_76 : decode cX3_delete 76 = .ok (.aload_n 0, 1) := dk_42 (dk_at dksX3_delete_3 5 rfl rfl)
theorem dX3_delete_77 : decode cX3_delete 77 = .ok (.getfield 7, 3) := dk_180 0 7 (dk_at dksX3_delete_3 6 rfl rfl)
theorem dX3_delete_80 : decode cX3_delete 80 = .ok (.bipush 24, 2) := dk_16 24 (dk_at dksX3_delete_3 9 rfl rfl)
theorem dX3_delete_82 : decode cX3_delete 82 = .ok (.iload_n 1, 1) := dk_27 (dk_at dksX3_delete_3 11 rfl rfl)
theorem dX3_delete_83 : decode cX3_delete 83 = .ok (.imul, 1) := dk_104 (dk_at dksX3_delete_3 12 rfl rfl)
theorem dX3_delete_84 : decode cX3_delete 84 = .ok (.iload 4, 2) := dk_21 4 (dk_at dksX3_delete_3 13 rfl rfl)
theorem dX3_delete_86 : decode cX3_delete 86 = .ok (.iadd, 1) := dk_96 (dk_at dksX3_delete_3 15 rfl rfl)
theorem dX3_delete_87 : decode cX3_delete 87 = .ok (.aload_n 0, 1) := dk_42 (dk_at dksX3_delete_3 16 rfl rfl)
theorem dX3_delete_88 : decode cX3_delete 88 = .ok (.getfield 7, 3) := dk_180 0 7 (dk_at dksX3_delete_3 17 rfl rfl)
theorem dX3_delete_91 : decode cX3_delete 91 = .ok (.bipush 24, 2) := dk_16 24 (dk_at dksX3_delete_3 20 rfl rfl)
theorem dX3_delete_93 : decode cX3_delete 93 = .ok (.iload_n 1, 1) := dk_27 (dk_at dksX3_delete_3 22 rfl rfl)
theorem dX3_delete_94 : decode cX3_delete 94 = .ok (.imul, 1) := dk_104 (dk_at dksX3_delete_3 23 rfl rfl)
theorem dX3_delete_95 : decode cX3_delete 95 = .ok (.iload 4, 2) := dk_21 4 (dk_at dksX3_delete_4 0 rfl rfl)
theorem dX3_delete_97 : decode cX3_delete 97 = .ok (.iadd, 1) := dk_96 (dk_at dksX3_delete_4 2 rfl rfl)
theorem dX3_delete_98 : decode cX3_delete 98 = .ok (.iconst 1, 1) := dk_4 (dk_at dksX3_delete_4 3 rfl rfl)
theorem dX3_delete_99 : decode cX3_delete 99 = .ok (.iadd, 1) := dk_96 (dk_at dksX3_delete_4 4 rfl rfl)
theorem dX3_delete_100 : decode cX3_delete 100 = .ok (.iaload, 1) := dk_46 (dk_at dksX3_delete_4 5 rfl rfl)
theorem dX3_delete_101 : decode cX3_delete 101 = .ok (.iastore, 1) := dk_79 (dk_at dksX3_delete_4 6 rfl rfl)
theorem dX3_delete_102 : decode cX3_delete 102 = .ok (.iinc 4 1, 3) := dk_132 4 1 (dk_at dksX3_delete_4 7 rfl rfl)
theorem dX3_delete_105 : decode cX3_delete 105 = .ok (.goto (-40), 3) := dk_167 255 216 (dk_at dksX3_delete_4 10 rfl rfl)
theorem dX3_delete_108 : decode cX3_delete 108 = .ok (.aload_n 0, 1) := dk_42 (dk_at dksX3_delete_4 13 rfl rfl)
theorem dX3_delete_109 : decode cX3_delete 109 = .ok (.iload_n 3, 1) := dk_29 (dk_at dksX3_delete_4 14 rfl rfl)
theorem dX3_delete_110 : decode cX3_delete 110 = .ok (.invokevirtual 138, 3) := dk_182 0 138 (dk_at dksX3_delete_4 15 rfl rfl)
theorem dX3_delete_113 : decode cX3_delete 113 = .ok (.ireturn, 1) := dk_172 (dk_at dksX3_delete_4 18 rfl rfl)
abbrev cX3_length : ByteArray := prog_22_method_14_code
def yX3_length : MethodName := ⟨RX3, "length", "(I)I"⟩
def dkwX3_length_1 : List UInt8 := [182, 0, 130, 172]
abbrev dktX3_length_1 : List UInt8 := dkwX3_length_1 ++ []
def dkwX3_length_0 : List UInt8 := [27, 184, 0, 126, 153, 0, 16, 42, 42, 180, 0, 13, 27, 46, 182, 0, 138, 167, 0, 8, 42, 4]
abbrev dktX3_length_0 : List UInt8 := dkwX3_length_0 ++ dktX3_length_1
theorem dksX3_length_0 : cX3_length.data.toList.drop 0 = dktX3_length_0 := by decide +kernel
theorem dksX3_length_1 : cX3_length.data.toList.drop 22 = dktX3_length_1 := dk_seg dksX3_length_0 22 rfl rfl
theorem dX3_length_0 : decode cX3_length 0 = .ok (.iload_n 1, 1) := dk_27 (dk_at dksX3_length_0 0 rfl rfl)
theorem dX3_length_1 : decode cX3_length 1 = .ok (.invokestatic 126, 3) := dk_184 0 126 (dk_at dksX3_length_0 1 rfl rfl)
theorem dX3_length_4 : decode cX3_length 4 = .ok (.ifCond .eq 16, 3) := dk_153 0 16 (dk_at dksX3_length_0 4 rfl rfl)
theorem dX3_length_7 : decode cX3_length 7 = .ok (.aload_n 0, 1) := dk_42 (dk_at dksX3_length_0 7 rfl rfl)
theorem dX3_length_8 : decode cX3_length 8 = .ok (.aload_n 0, 1) := dk_42 (dk_at dksX3_length_0 8 rfl rfl)
theorem dX3_length_9 : decode cX3_length 9 = .ok (.getfield 13, 3) := dk_180 0 13 (dk_at dksX3_length_0 9 rfl rfl)
theorem dX3_length_12 : decode cX3_length 12 = .ok (.iload_n 1, 1) := dk_27 (dk_at dksX3_length_0 12 rfl rfl)
theorem dX3_length_13 : decode cX3_length 13 = .ok (.iaload, 1) := dk_46 (dk_at dksX3_length_0 13 rfl rfl)
theorem dX3_length_14 : decode cX3_length 14 = .ok (.invokevirtual 138, 3) := dk_182 0 138 (dk_at dksX3_length_0 14 rfl rfl)
theorem dX3_length_17 : decode cX3_length 17 = .ok (.goto 8, 3) := dk_167 0 8 (dk_at dksX3_length_0 17 rfl rfl)
theorem dX3_length_20 : decode cX3_length 20 = .ok (.aload_n 0, 1) := dk_42 (dk_at dksX3_length_0 20 rfl rfl)
theorem dX3_length_21 : decode cX3_length 21 = .ok (.iconst 1, 1) := dk_4 (dk_at dksX3_length_0 21 rfl rfl)
theorem dX3_length_22 : decode cX3_length 22 = .ok (.invokevirtual 130, 3) := dk_182 0 130 (dk_at dksX3_length_1 0 rfl rfl)
theorem dX3_length_25 : decode cX3_length 25 = .ok (.ireturn, 1) := dk_172 (dk_at dksX3_length_1 3 rfl rfl)
abbrev cX3_line : ByteArray := prog_22_method_15_code
def yX3_line : MethodName := ⟨RX3, "line", "(II)I"⟩
def dkwX3_line_2 : List UInt8 := [42, 5, 182, 0, 130, 172]
abbrev dktX3_line_2 : List UInt8 := dkwX3_line_2 ++ []
def dkwX3_line_1 : List UInt8 := [184, 0, 119, 153, 0, 21, 42, 42, 180, 0, 7, 16, 24, 27, 104, 28, 96, 46, 182, 0, 138, 167, 0, 8]
abbrev dktX3_line_1 : List UInt8 := dkwX3_line_1 ++ dktX3_line_2
def dkwX3_line_0 : List UInt8 := [27, 184, 0, 126, 154, 0, 9, 42, 4, 182, 0, 130, 172, 28, 3, 42, 180, 0, 13, 27, 46, 4, 100]
abbrev dktX3_line_0 : List UInt8 := dkwX3_line_0 ++ dktX3_line_1
theorem dksX3_line_0 : cX3_line.data.toList.drop 0 = dktX3_line_0 := by decide +kernel
theorem dksX3_line_1 : cX3_line.data.toList.drop 23 = dktX3_line_1 := dk_seg dksX3_line_0 23 rfl rfl
theorem dksX3_line_2 : cX3_line.data.toList.drop 47 = dktX3_line_2 := dk_seg dksX3_line_1 24 rfl rfl
theorem dX3_line_0 : decode cX3_line 0 = .ok (.iload_n 1, 1) := dk_27 (dk_at dksX3_line_0 0 rfl rfl)
theorem dX3_line_1 : decode cX3_line 1 = .ok (.invokestatic 126, 3) := dk_184 0 126 (dk_at dksX3_line_0 1 rfl rfl)
theorem dX3_line_4 : decode cX3_line 4 = .ok (.ifCond .ne 9, 3) := dk_154 0 9 (dk_at dksX3_line_0 4 rfl rfl)
theorem dX3_line_7 : decode cX3_line 7 = .ok (.aload_n 0, 1) := dk_42 (dk_at dksX3_line_0 7 rfl rfl)
theorem dX3_line_8 : decode cX3_line 8 = .ok (.iconst 1, 1) := dk_4 (dk_at dksX3_line_0 8 rfl rfl)
theorem dX3_line_9 : decode cX3_line 9 = .ok (.invokevirtual 130, 3) := dk_182 0 130 (dk_at dksX3_line_0 9 rfl rfl)
theorem dX3_line_12 : decode cX3_line 12 = .ok (.ireturn, 1) := dk_172 (dk_at dksX3_line_0 12 rfl rfl)
theorem dX3_line_13 : decode cX3_line 13 = .ok (.iload_n 2, 1) := dk_28 (dk_at dksX3_line_0 13 rfl rfl)
theorem dX3_line_14 : decode cX3_line 14 = .ok (.iconst 0, 1) := dk_3 (dk_at dksX3_line_0 14 rfl rfl)
theorem dX3_line_15 : decode cX3_line 15 = .ok (.aload_n 0, 1) := dk_42 (dk_at dksX3_line_0 15 rfl rfl)
theorem dX3_line_16 : decode cX3_line 16 = .ok (.getfield 13, 3) := dk_180 0 13 (dk_at dksX3_line_0 16 rfl rfl)
theorem dX3_line_19 : decode cX3_line 19 = .ok (.iload_n 1, 1) := dk_27 (dk_at dksX3_line_0 19 rfl rfl)
theorem dX3_line_20 : decode cX3_line 20 = .ok (.iaload, 1) := dk_46 (dk_at dksX3_line_0 20 rfl rfl)
theorem dX3_line_21 : decode cX3_line 21 = .ok (.iconst 1, 1) := dk_4 (dk_at dksX3_line_0 21 rfl rfl)
theorem dX3_line_22 : decode cX3_line 22 = .ok (.isub, 1) := dk_100 (dk_at dksX3_line_0 22 rfl rfl)
theorem dX3_line_23 : decode cX3_line 23 = .ok (.invokestatic 119, 3) := dk_184 0 119 (dk_at dksX3_line_1 0 rfl rfl)
theorem dX3_line_26 : decode cX3_line 26 = .ok (.ifCond .eq 21, 3) := dk_153 0 21 (dk_at dksX3_line_1 3 rfl rfl)
theorem dX3_line_29 : decode cX3_line 29 = .ok (.aload_n 0, 1) := dk_42 (dk_at dksX3_line_1 6 rfl rfl)
theorem dX3_line_30 : decode cX3_line 30 = .ok (.aload_n 0, 1) := dk_42 (dk_at dksX3_line_1 7 rfl rfl)
theorem dX3_line_31 : decode cX3_line 31 = .ok (.getfield 7, 3) := dk_180 0 7 (dk_at dksX3_line_1 8 rfl rfl)
theorem dX3_line_34 : decode cX3_line 34 = .ok (.bipush 24, 2) := dk_16 24 (dk_at dksX3_line_1 11 rfl rfl)
theorem dX3_line_36 : decode cX3_line 36 = .ok (.iload_n 1, 1) := dk_27 (dk_at dksX3_line_1 13 rfl rfl)
theorem dX3_line_37 : decode cX3_line 37 = .ok (.imul, 1) := dk_104 (dk_at dksX3_line_1 14 rfl rfl)
theorem dX3_line_38 : decode cX3_line 38 = .ok (.iload_n 2, 1) := dk_28 (dk_at dksX3_line_1 15 rfl rfl)
theorem dX3_line_39 : decode cX3_line 39 = .ok (.iadd, 1) := dk_96 (dk_at dksX3_line_1 16 rfl rfl)
theorem dX3_line_40 : decode cX3_line 40 = .ok (.iaload, 1) := dk_46 (dk_at dksX3_line_1 17 rfl rfl)
theorem dX3_line_41 : decode cX3_line 41 = .ok (.invokevirtual 138, 3) := dk_182 0 138 (dk_at dksX3_line_1 18 rfl rfl)
theorem dX3_line_44 : decode cX3_line 44 = .ok (.goto 8, 3) := dk_167 0 8 (dk_at dksX3_line_1 21 rfl rfl)
theorem dX3_line_47 : decode cX3_line 47 = .ok (.aload_n 0, 1) := dk_42 (dk_at dksX3_line_2 0 rfl rfl)
theorem dX3_line_48 : decode cX3_line 48 = .ok (.iconst 2, 1) := dk_5 (dk_at dksX3_line_2 1 rfl rfl)
theorem dX3_line_49 : decode cX3_line 49 = .ok (.invokevirtual 130, 3) := dk_182 0 130 (dk_at dksX3_line_2 2 rfl rfl)
theorem dX3_line_52 : decode cX3_line 52 = .ok (.ireturn, 1) := dk_172 (dk_at dksX3_line_2 5 rfl rfl)
abbrev cX3_copy : ByteArray := prog_22_method_16_code
def yX3_copy : MethodName := ⟨RX3, "copy", "(II)I"⟩
def dkwX3_copy_3 : List UInt8 := [27, 46, 182, 0, 141, 42, 42, 180, 0, 13, 28, 46, 182, 0, 138, 172]
abbrev dktX3_copy_3 : List UInt8 := dkwX3_copy_3 ++ []
def dkwX3_copy_2 : List UInt8 := [16, 24, 27, 104, 29, 96, 46, 79, 132, 3, 1, 167, 255, 226, 42, 28, 42, 180, 0, 39, 42, 180, 0, 13]
abbrev dktX3_copy_2 : List UInt8 := dkwX3_copy_2 ++ dktX3_copy_3
def dkwX3_copy_1 : List UInt8 := [182, 0, 134, 3, 62, 29, 42, 180, 0, 13, 27, 46, 162, 0, 26, 42, 180, 0, 39, 29, 42, 180, 0, 7]
abbrev dktX3_copy_1 : List UInt8 := dkwX3_copy_1 ++ dktX3_copy_2
def dkwX3_copy_0 : List UInt8 := [27, 184, 0, 126, 153, 0, 10, 28, 184, 0, 126, 154, 0, 9, 42, 4, 182, 0, 130, 172, 42, 28]
abbrev dktX3_copy_0 : List UInt8 := dkwX3_copy_0 ++ dktX3_copy_1
theorem dksX3_copy_0 : cX3_copy.data.toList.drop 0 = dktX3_copy_0 := by decide +kernel
theorem dksX3_copy_1 : cX3_copy.data.toList.drop 22 = dktX3_copy_1 := dk_seg dksX3_copy_0 22 rfl rfl
theorem dksX3_copy_2 : cX3_copy.data.toList.drop 46 = dktX3_copy_2 := dk_seg dksX3_copy_1 24 rfl rfl
theorem dksX3_copy_3 : cX3_copy.data.toList.drop 70 = dktX3_copy_3 := dk_seg dksX3_copy_2 24 rfl rfl
theorem dX3_copy_0 : decode cX3_copy 0 = .ok (.iload_n 1, 1) := dk_27 (dk_at dksX3_copy_0 0 rfl rfl)
theorem dX3_copy_1 : decode cX3_copy 1 = .ok (.invokestatic 126, 3) := dk_184 0 126 (dk_at dksX3_copy_0 1 rfl rfl)
theorem dX3_copy_4 : decode cX3_copy 4 = .ok (.ifCond .eq 10, 3) := dk_153 0 10 (dk_at dksX3_copy_0 4 rfl rfl)
theorem dX3_copy_7 : decode cX3_copy 7 = .ok (.iload_n 2, 1) := dk_28 (dk_at dksX3_copy_0 7 rfl rfl)
theorem dX3_copy_8 : decode cX3_copy 8 = .ok (.invokestatic 126, 3) := dk_184 0 126 (dk_at dksX3_copy_0 8 rfl rfl)
theorem dX3_copy_11 : decode cX3_copy 11 = .ok (.ifCond .ne 9, 3) := dk_154 0 9 (dk_at dksX3_copy_0 11 rfl rfl)
theorem dX3_copy_14 : decode cX3_copy 14 = .ok (.aload_n 0, 1) := dk_42 (dk_at dksX3_copy_0 14 rfl rfl)
theorem dX3_copy_15 : decode cX3_copy 15 = .ok (.iconst 1, 1) := dk_4 (dk_at dksX3_copy_0 15 rfl rfl)
theorem dX3_copy_16 : decode cX3_copy 16 = .ok (.invokevirtual 130, 3) := dk_182 0 130 (dk_at dksX3_copy_0 16 rfl rfl)
theorem dX3_copy_19 : decode cX3_copy 19 = .ok (.ireturn, 1) := dk_172 (dk_at dksX3_copy_0 19 rfl rfl)
theorem dX3_copy_20 : decode cX3_copy 20 = .ok (.aload_n 0, 1) := dk_42 (dk_at dksX3_copy_0 20 rfl rfl)
theorem dX3_copy_21 : decode cX3_copy 21 = .ok (.iload_n 2, 1) := dk_28 (dk_at dksX3_copy_0 21 rfl rfl)
theorem dX3_copy_22 : decode cX3_copy 22 = .ok (.invokevirtual 134, 3) := dk_182 0 134 (dk_at dksX3_copy_1 0 rfl rfl)
theorem dX3_copy_25 : decode cX3_copy 25 = .ok (.iconst 0, 1) := dk_3 (dk_at dksX3_copy_1 3 rfl rfl)
theorem dX3_copy_26 : decode cX3_copy 26 = .ok (.istore_n 3, 1) := dk_62 (dk_at dksX3_copy_1 4 rfl rfl)
theorem dX3_copy_27 : decode cX3_copy 27 = .ok (.iload_n 3, 1) := dk_29 (dk_at dksX3_copy_1 5 rfl rfl)
theorem dX3_copy_28 : decode cX3_copy 28 = .ok (.aload_n 0, 1) := dk_42 (dk_at dksX3_copy_1 6 rfl rfl)
theorem dX3_copy_29 : decode cX3_copy 29 = .ok (.getfield 13, 3) := dk_180 0 13 (dk_at dksX3_copy_1 7 rfl rfl)
theorem dX3_copy_32 : decode cX3_copy 32 = .ok (.iload_n 1, 1) := dk_27 (dk_at dksX3_copy_1 10 rfl rfl)
theorem dX3_copy_33 : decode cX3_copy 33 = .ok (.iaload, 1) := dk_46 (dk_at dksX3_copy_1 11 rfl rfl)
theorem dX3_copy_34 : decode cX3_copy 34 = .ok (.if_icmp .ge 26, 3) := dk_162 0 26 (dk_at dksX3_copy_1 12 rfl rfl)
theorem dX3_copy_37 : decode cX3_copy 37 = .ok (.aload_n 0, 1) := dk_42 (dk_at dksX3_copy_1 15 rfl rfl)
theorem dX3_copy_38 : decode cX3_copy 38 = .ok (.getfield 39, 3) := dk_180 0 39 (dk_at dksX3_copy_1 16 rfl rfl)
theorem dX3_copy_41 : decode cX3_copy 41 = .ok (.iload_n 3, 1) := dk_29 (dk_at dksX3_copy_1 19 rfl rfl)
theorem dX3_copy_42 : decode cX3_copy 42 = .ok (.aload_n 0, 1) := dk_42 (dk_at dksX3_copy_1 20 rfl rfl)
theorem dX3_copy_43 : decode cX3_copy 43 = .ok (.getfield 7, 3) := dk_180 0 7 (dk_at dksX3_copy_1 21 rfl rfl)
theorem dX3_copy_46 : decode cX3_copy 46 = .ok (.bipush 24, 2) := dk_16 24 (dk_at dksX3_copy_2 0 rfl rfl)
theorem dX3_copy_48 : decode cX3_copy 48 = .ok (.iload_n 1, 1) := dk_27 (dk_at dksX3_copy_2 2 rfl rfl)
theorem dX3_copy_49 : decode cX3_copy 49 = .ok (.imul, 1) := dk_104 (dk_at dksX3_copy_2 3 rfl rfl)
theorem dX3_copy_50 : decode cX3_copy 50 = .ok (.iload_n 3, 1) := dk_29 (dk_at dksX3_copy_2 4 rfl rfl)
theorem dX3_copy_51 : decode cX3_copy 51 = .ok (.iadd, 1) := dk_96 (dk_at dksX3_copy_2 5 rfl rfl)
theorem dX3_copy_52 : decode cX3_copy 52 = .ok (.iaload, 1) := dk_46 (dk_at dksX3_copy_2 6 rfl rfl)
theorem dX3_copy_53 : decode cX3_copy 53 = .ok (.iastore, 1) := dk_79 (dk_at dksX3_copy_2 7 rfl rfl)
theorem dX3_copy_54 : decode cX3_copy 54 = .ok (.iinc 3 1, 3) := dk_132 3 1 (dk_at dksX3_copy_2 8 rfl rfl)
theorem dX3_copy_57 : decode cX3_copy 57 = .ok (.goto (-30), 3) := dk_167 255 226 (dk_at dksX3_copy_2 11 rfl rfl)
theorem dX3_copy_60 : decode cX3_copy 60 = .ok (.aload_n 0, 1) := dk_42 (dk_at dksX3_copy_2 14 rfl rfl)
theorem dX3_copy_61 : decode cX3_copy 61 = .ok (.iload_n 2, 1) := dk_28 (dk_at dksX3_copy_2 15 rfl rfl)
theorem dX3_copy_62 : decode cX3_copy 62 = .ok (.aload_n 0, 1) := dk_42 (dk_at dksX3_copy_2 16 rfl rfl)
theorem dX3_copy_63 : decode cX3_copy 63 = .ok (.getfield 39, 3) := dk_180 0 39 (dk_at dksX3_copy_2 17 rfl rfl)
theorem dX3_copy_66 : decode cX3_copy 66 = .ok (.aload_n 0, 1) := dk_42 (dk_at dksX3_copy_2 20 rfl rfl)
theorem dX3_copy_67 : decode cX3_copy 67 = .ok (.getfield 13, 3) := dk_180 0 13 (dk_at dksX3_copy_2 21 rfl rfl)
theorem dX3_copy_70 : decode cX3_copy 70 = .ok (.iload_n 1, 1) := dk_27 (dk_at dksX3_copy_3 0 rfl rfl)
theorem dX3_copy_71 : decode cX3_copy 71 = .ok (.iaload, 1) := dk_46 (dk_at dksX3_copy_3 1 rfl rfl)
theorem dX3_copy_72 : decode cX3_copy 72 = .ok (.invokevirtual 141, 3) := dk_182 0 141 (dk_at dksX3_copy_3 2 rfl rfl)
theorem dX3_copy_75 : decode cX3_copy 75 = .ok (.aload_n 0, 1) := dk_42 (dk_at dksX3_copy_3 5 rfl rfl)
theorem dX3_copy_76 : decode cX3_copy 76 = .ok (.aload_n 0, 1) := dk_42 (dk_at dksX3_copy_3 6 rfl rfl)
theorem dX3_copy_77 : decode cX3_copy 77 = .ok (.getfield 13, 3) := dk_180 0 13 (dk_at dksX3_copy_3 7 rfl rfl)
theorem dX3_copy_80 : decode cX3_copy 80 = .ok (.iload_n 2, 1) := dk_28 (dk_at dksX3_copy_3 10 rfl rfl)
theorem dX3_copy_81 : decode cX3_copy 81 = .ok (.iaload, 1) := dk_46 (dk_at dksX3_copy_3 11 rfl rfl)
theorem dX3_copy_82 : decode cX3_copy 82 = .ok (.invokevirtual 138, 3) := dk_182 0 138 (dk_at dksX3_copy_3 12 rfl rfl)
theorem dX3_copy_85 : decode cX3_copy 85 = .ok (.ireturn, 1) := dk_172 (dk_at dksX3_copy_3 15 rfl rfl)
abbrev cX3_holds : ByteArray := prog_22_method_10_code
def yX3_holds : MethodName := ⟨RX3, "holds", "(I[II)V"⟩
def dkwX3_holds_1 : List UInt8 := [21, 4, 96, 44, 21, 4, 46, 79, 132, 4, 1, 167, 255, 231, 177]
abbrev dktX3_holds_1 : List UInt8 := dkwX3_holds_1 ++ []
def dkwX3_holds_0 : List UInt8 := [42, 180, 0, 13, 27, 29, 79, 3, 54, 4, 21, 4, 29, 162, 0, 25, 42, 180, 0, 7, 16, 24, 27, 104]
abbrev dktX3_holds_0 : List UInt8 := dkwX3_holds_0 ++ dktX3_holds_1
theorem dksX3_holds_0 : cX3_holds.data.toList.drop 0 = dktX3_holds_0 := by decide +kernel
theorem dksX3_holds_1 : cX3_holds.data.toList.drop 24 = dktX3_holds_1 := dk_seg dksX3_holds_0 24 rfl rfl
theorem dX3_holds_0 : decode cX3_holds 0 = .ok (.aload_n 0, 1) := dk_42 (dk_at dksX3_holds_0 0 rfl rfl)
theorem dX3_holds_1 : decode cX3_holds 1 = .ok (.getfield 13, 3) := dk_180 0 13 (dk_at dksX3_holds_0 1 rfl rfl)
theorem dX3_holds_4 : decode cX3_holds 4 = .ok (.iload_n 1, 1) := dk_27 (dk_at dksX3_holds_0 4 rfl rfl)
theorem dX3_holds_5 : decode cX3_holds 5 = .ok (.iload_n 3, 1) := dk_29 (dk_at dksX3_holds_0 5 rfl rfl)
theorem dX3_holds_6 : decode cX3_holds 6 = .ok (.iastore, 1) := dk_79 (dk_at dksX3_holds_0 6 rfl rfl)
theorem dX3_holds_7 : decode cX3_holds 7 = .ok (.iconst 0, 1) := dk_3 (dk_at dksX3_holds_0 7 rfl rfl)
theorem dX3_holds_8 : decode cX3_holds 8 = .ok (.istore 4, 2) := dk_54 4 (dk_at dksX3_holds_0 8 rfl rfl)
theorem dX3_holds_10 : decode cX3_holds 10 = .ok (.iload 4, 2) := dk_21 4 (dk_at dksX3_holds_0 10 rfl rfl)
theorem dX3_holds_12 : decode cX3_holds 12 = .ok (.iload_n 3, 1) := dk_29 (dk_at dksX3_holds_0 12 rfl rfl)
theorem dX3_holds_13 : decode cX3_holds 13 = .ok (.if_icmp .ge 25, 3) := dk_162 0 25 (dk_at dksX3_holds_0 13 rfl rfl)
theorem dX3_holds_16 : decode cX3_holds 16 = .ok (.aload_n 0, 1) := dk_42 (dk_at dksX3_holds_0 16 rfl rfl)
theorem dX3_holds_17 : decode cX3_holds 17 = .ok (.getfield 7, 3) := dk_180 0 7 (dk_at dksX3_holds_0 17 rfl rfl)
theorem dX3_holds_20 : decode cX3_holds 20 = .ok (.bipush 24, 2) := dk_16 24 (dk_at dksX3_holds_0 20 rfl rfl)
theorem dX3_holds_22 : decode cX3_holds 22 = .ok (.iload_n 1, 1) := dk_27 (dk_at dksX3_holds_0 22 rfl rfl)
theorem dX3_holds_23 : decode cX3_holds 23 = .ok (.imul, 1) := dk_104 (dk_at dksX3_holds_0 23 rfl rfl)
theorem dX3_holds_24 : decode cX3_holds 24 = .ok (.iload 4, 2) := dk_21 4 (dk_at dksX3_holds_1 0 rfl rfl)
theorem dX3_holds_26 : decode cX3_holds 26 = .ok (.iadd, 1) := dk_96 (dk_at dksX3_holds_1 2 rfl rfl)
theorem dX3_holds_27 : decode cX3_holds 27 = .ok (.aload_n 2, 1) := dk_44 (dk_at dksX3_holds_1 3 rfl rfl)
theorem dX3_holds_28 : decode cX3_holds 28 = .ok (.iload 4, 2) := dk_21 4 (dk_at dksX3_holds_1 4 rfl rfl)
theorem dX3_holds_30 : decode cX3_holds 30 = .ok (.iaload, 1) := dk_46 (dk_at dksX3_holds_1 6 rfl rfl)
theorem dX3_holds_31 : decode cX3_holds 31 = .ok (.iastore, 1) := dk_79 (dk_at dksX3_holds_1 7 rfl rfl)
theorem dX3_holds_32 : decode cX3_holds 32 = .ok (.iinc 4 1, 3) := dk_132 4 1 (dk_at dksX3_holds_1 8 rfl rfl)
theorem dX3_holds_35 : decode cX3_holds 35 = .ok (.goto (-25), 3) := dk_167 255 231 (dk_at dksX3_holds_1 11 rfl rfl)
theorem dX3_holds_38 : decode cX3_holds 38 = .ok (.return_, 1) := dk_177 (dk_at dksX3_holds_1 14 rfl rfl)
abbrev cX3_isSame : ByteArray := prog_22_method_17_code
def yX3_isSame : MethodName := ⟨RX3, "isSame", "(II)Z"⟩
def dkwX3_isSame_4 : List UInt8 := [167, 255, 205, 42, 29, 182, 0, 148, 172]
abbrev dktX3_isSame_4 : List UInt8 := dkwX3_isSame_4 ++ []
def dkwX3_isSame_3 : List UInt8 := [42, 180, 0, 7, 16, 24, 28, 104, 21, 4, 96, 46, 160, 0, 7, 4, 167, 0, 4, 3, 62, 132, 4, 1]
abbrev dktX3_isSame_3 : List UInt8 := dkwX3_isSame_3 ++ dktX3_isSame_4
def dkwX3_isSame_2 : List UInt8 := [180, 0, 13, 27, 46, 162, 0, 46, 29, 153, 0, 42, 42, 180, 0, 7, 16, 24, 27, 104, 21, 4, 96, 46]
abbrev dktX3_isSame_2 : List UInt8 := dkwX3_isSame_2 ++ dktX3_isSame_3
def dkwX3_isSame_1 : List UInt8 := [27, 46, 42, 180, 0, 13, 28, 46, 160, 0, 7, 4, 167, 0, 4, 3, 62, 3, 54, 4, 21, 4, 42]
abbrev dktX3_isSame_1 : List UInt8 := dkwX3_isSame_1 ++ dktX3_isSame_2
def dkwX3_isSame_0 : List UInt8 := [27, 184, 0, 126, 153, 0, 10, 28, 184, 0, 126, 154, 0, 9, 42, 4, 182, 0, 145, 172, 42, 180, 0, 13]
abbrev dktX3_isSame_0 : List UInt8 := dkwX3_isSame_0 ++ dktX3_isSame_1
theorem dksX3_isSame_0 : cX3_isSame.data.toList.drop 0 = dktX3_isSame_0 := by decide +kernel
theorem dksX3_isSame_1 : cX3_isSame.data.toList.drop 24 = dktX3_isSame_1 := dk_seg dksX3_isSame_0 24 rfl rfl
theorem dksX3_isSame_2 : cX3_isSame.data.toList.drop 47 = dktX3_isSame_2 := dk_seg dksX3_isSame_1 23 rfl rfl
theorem dksX3_isSame_3 : cX3_isSame.data.toList.drop 71 = dktX3_isSame_3 := dk_seg dksX3_isSame_2 24 rfl rfl
theorem dksX3_isSame_4 : cX3_isSame.data.toList.drop 95 = dktX3_isSame_4 := dk_seg dksX3_isSame_3 24 rfl rfl
theorem dX3_isSame_0 : decode cX3_isSame 0 = .ok (.iload_n 1, 1) := dk_27 (dk_at dksX3_isSame_0 0 rfl rfl)
theorem dX3_isSame_1 : decode cX3_isSame 1 = .ok (.invokestatic 126, 3) := dk_184 0 126 (dk_at dksX3_isSame_0 1 rfl rfl)
theorem dX3_isSame_4 : decode cX3_isSame 4 = .ok (.ifCond .eq 10, 3) := dk_153 0 10 (dk_at dksX3_isSame_0 4 rfl rfl)
theorem dX3_isSame_7 : decode cX3_isSame 7 = .ok (.iload_n 2, 1) := dk_28 (dk_at dksX3_isSame_0 7 rfl rfl)
theorem dX3_isSame_8 : decode cX3_isSame 8 = .ok (.invokestatic 126, 3) := dk_184 0 126 (dk_at dksX3_isSame_0 8 rfl rfl)
theorem dX3_isSame_11 : decode cX3_isSame 11 = .ok (.ifCond .ne 9, 3) := dk_154 0 9 (dk_at dksX3_isSame_0 11 rfl rfl)
theorem dX3_isSame_14 : decode cX3_isSame 14 = .ok (.aload_n 0, 1) := dk_42 (dk_at dksX3_isSame_0 14 rfl rfl)
theorem dX3_isSame_15 : decode cX3_isSame 15 = .ok (.iconst 1, 1) := dk_4 (dk_at dksX3_isSame_0 15 rfl rfl)
theorem dX3_isSame_16 : decode cX3_isSame 16 = .ok (.invokevirtual 145, 3) := dk_182 0 145 (dk_at dksX3_isSame_0 16 rfl rfl)
theorem dX3_isSame_19 : decode cX3_isSame 19 = .ok (.ireturn, 1) := dk_172 (dk_at dksX3_isSame_0 19 rfl rfl)
theorem dX3_isSame_20 : decode cX3_isSame 20 = .ok (.aload_n 0, 1) := dk_42 (dk_at dksX3_isSame_0 20 rfl rfl)
theorem dX3_isSame_21 : decode cX3_isSame 21 = .ok (.getfield 13, 3) := dk_180 0 13 (dk_at dksX3_isSame_0 21 rfl rfl)
theorem dX3_isSame_24 : decode cX3_isSame 24 = .ok (.iload_n 1, 1) := dk_27 (dk_at dksX3_isSame_1 0 rfl rfl)
theorem dX3_isSame_25 : decode cX3_isSame 25 = .ok (.iaload, 1) := dk_46 (dk_at dksX3_isSame_1 1 rfl rfl)
theorem dX3_isSame_26 : decode cX3_isSame 26 = .ok (.aload_n 0, 1) := dk_42 (dk_at dksX3_isSame_1 2 rfl rfl)
theorem dX3_isSame_27 : decode cX3_isSame 27 = .ok (.getfield 13, 3) := dk_180 0 13 (dk_at dksX3_isSame_1 3 rfl rfl)
theorem dX3_isSame_30 : decode cX3_isSame 30 = .ok (.iload_n 2, 1) := dk_28 (dk_at dksX3_isSame_1 6 rfl rfl)
theorem dX3_isSame_31 : decode cX3_isSame 31 = .ok (.iaload, 1) := dk_46 (dk_at dksX3_isSame_1 7 rfl rfl)
theorem dX3_isSame_32 : decode cX3_isSame 32 = .ok (.if_icmp .ne 7, 3) := dk_160 0 7 (dk_at dksX3_isSame_1 8 rfl rfl)
theorem dX3_isSame_35 : decode cX3_isSame 35 = .ok (.iconst 1, 1) := dk_4 (dk_at dksX3_isSame_1 11 rfl rfl)
theorem dX3_isSame_36 : decode cX3_isSame 36 = .ok (.goto 4, 3) := dk_167 0 4 (dk_at dksX3_isSame_1 12 rfl rfl)
theorem dX3_isSame_39 : decode cX3_isSame 39 = .ok (.iconst 0, 1) := dk_3 (dk_at dksX3_isSame_1 15 rfl rfl)
theorem dX3_isSame_40 : decode cX3_isSame 40 = .ok (.istore_n 3, 1) := dk_62 (dk_at dksX3_isSame_1 16 rfl rfl)
theorem dX3_isSame_41 : decode cX3_isSame 41 = .ok (.iconst 0, 1) := dk_3 (dk_at dksX3_isSame_1 17 rfl rfl)
theorem dX3_isSame_42 : decode cX3_isSame 42 = .ok (.istore 4, 2) := dk_54 4 (dk_at dksX3_isSame_1 18 rfl rfl)
theorem dX3_isSame_44 : decode cX3_isSame 44 = .ok (.iload 4, 2) := dk_21 4 (dk_at dksX3_isSame_1 20 rfl rfl)
theorem dX3_isSame_46 : decode cX3_isSame 46 = .ok (.aload_n 0, 1) := dk_42 (dk_at dksX3_isSame_1 22 rfl rfl)
theorem dX3_isSame_47 : decode cX3_isSame 47 = .ok (.getfield 13, 3) := dk_180 0 13 (dk_at dksX3_isSame_2 0 rfl rfl)
theorem dX3_isSame_50 : decode cX3_isSame 50 = .ok (.iload_n 1, 1) := dk_27 (dk_at dksX3_isSame_2 3 rfl rfl)
theorem dX3_isSame_51 : decode cX3_isSame 51 = .ok (.iaload, 1) := dk_46 (dk_at dksX3_isSame_2 4 rfl rfl)
theorem dX3_isSame_52 : decode cX3_isSame 52 = .ok (.if_icmp .ge 46, 3) := dk_162 0 46 (dk_at dksX3_isSame_2 5 rfl rfl)
theorem dX3_isSame_55 : decode cX3_isSame 55 = .ok (.iload_n 3, 1) := dk_29 (dk_at dksX3_isSame_2 8 rfl rfl)
theorem dX3_isSame_56 : decode cX3_isSame 56 = .ok (.ifCond .eq 42, 3) := dk_153 0 42 (dk_at dksX3_isSame_2 9 rfl rfl)
theorem dX3_isSame_59 : decode cX3_isSame 59 = .ok (.aload_n 0, 1) := dk_42 (dk_at dksX3_isSame_2 12 rfl rfl)
theorem dX3_isSame_60 : decode cX3_isSame 60 = .ok (.getfield 7, 3) := dk_180 0 7 (dk_at dksX3_isSame_2 13 rfl rfl)
theorem dX3_isSame_63 : decode cX3_isSame 63 = .ok (.bipush 24, 2) := dk_16 24 (dk_at dksX3_isSame_2 16 rfl rfl)
theorem dX3_isSame_65 : decode cX3_isSame 65 = .ok (.iload_n 1, 1) := dk_27 (dk_at dksX3_isSame_2 18 rfl rfl)
theorem dX3_isSame_66 : decode cX3_isSame 66 = .ok (.imul, 1) := dk_104 (dk_at dksX3_isSame_2 19 rfl rfl)
theorem dX3_isSame_67 : decode cX3_isSame 67 = .ok (.iload 4, 2) := dk_21 4 (dk_at dksX3_isSame_2 20 rfl rfl)
theorem dX3_isSame_69 : decode cX3_isSame 69 = .ok (.iadd, 1) := dk_96 (dk_at dksX3_isSame_2 22 rfl rfl)
theorem dX3_isSame_70 : decode cX3_isSame 70 = .ok (.iaload, 1) := dk_46 (dk_at dksX3_isSame_2 23 rfl rfl)
theorem dX3_isSame_71 : decode cX3_isSame 71 = .ok (.aload_n 0, 1) := dk_42 (dk_at dksX3_isSame_3 0 rfl rfl)
theorem dX3_isSame_72 : decode cX3_isSame 72 = .ok (.getfield 7, 3) := dk_180 0 7 (dk_at dksX3_isSame_3 1 rfl rfl)
theorem dX3_isSame_75 : decode cX3_isSame 75 = .ok (.bipush 24, 2) := dk_16 24 (dk_at dksX3_isSame_3 4 rfl rfl)
theorem dX3_isSame_77 : decode cX3_isSame 77 = .ok (.iload_n 2, 1) := dk_28 (dk_at dksX3_isSame_3 6 rfl rfl)
theorem dX3_isSame_78 : decode cX3_isSame 78 = .ok (.imul, 1) := dk_104 (dk_at dksX3_isSame_3 7 rfl rfl)
theorem dX3_isSame_79 : decode cX3_isSame 79 = .ok (.iload 4, 2) := dk_21 4 (dk_at dksX3_isSame_3 8 rfl rfl)
theorem dX3_isSame_81 : decode cX3_isSame 81 = .ok (.iadd, 1) := dk_96 (dk_at dksX3_isSame_3 10 rfl rfl)
theorem dX3_isSame_82 : decode cX3_isSame 82 = .ok (.iaload, 1) := dk_46 (dk_at dksX3_isSame_3 11 rfl rfl)
theorem dX3_isSame_83 : decode cX3_isSame 83 = .ok (.if_icmp .ne 7, 3) := dk_160 0 7 (dk_at dksX3_isSame_3 12 rfl rfl)
theorem dX3_isSame_86 : decode cX3_isSame 86 = .ok (.iconst 1, 1) := dk_4 (dk_at dksX3_isSame_3 15 rfl rfl)
theorem dX3_isSame_87 : decode cX3_isSame 87 = .ok (.goto 4, 3) := dk_167 0 4 (dk_at dksX3_isSame_3 16 rfl rfl)
theorem dX3_isSame_90 : decode cX3_isSame 90 = .ok (.iconst 0, 1) := dk_3 (dk_at dksX3_isSame_3 19 rfl rfl)
theorem dX3_isSame_91 : decode cX3_isSame 91 = .ok (.istore_n 3, 1) := dk_62 (dk_at dksX3_isSame_3 20 rfl rfl)
theorem dX3_isSame_92 : decode cX3_isSame 92 = .ok (.iinc 4 1, 3) := dk_132 4 1 (dk_at dksX3_isSame_3 21 rfl rfl)
theorem dX3_isSame_95 : decode cX3_isSame 95 = .ok (.goto (-51), 3) := dk_167 255 205 (dk_at dksX3_isSame_4 0 rfl rfl)
theorem dX3_isSame_98 : decode cX3_isSame 98 = .ok (.aload_n 0, 1) := dk_42 (dk_at dksX3_isSame_4 3 rfl rfl)
theorem dX3_isSame_99 : decode cX3_isSame 99 = .ok (.iload_n 3, 1) := dk_29 (dk_at dksX3_isSame_4 4 rfl rfl)
theorem dX3_isSame_100 : decode cX3_isSame 100 = .ok (.invokevirtual 148, 3) := dk_182 0 148 (dk_at dksX3_isSame_4 5 rfl rfl)
theorem dX3_isSame_103 : decode cX3_isSame 103 = .ok (.ireturn, 1) := dk_172 (dk_at dksX3_isSame_4 8 rfl rfl)
abbrev cX3_not : ByteArray := prog_22_method_6_code
def yX3_not : MethodName := ⟨RX3, "not", "(I)Z"⟩
def dkwX3_not_0 : List UInt8 := [42, 27, 181, 0, 115, 3, 172]
abbrev dktX3_not_0 : List UInt8 := dkwX3_not_0 ++ []
theorem dksX3_not_0 : cX3_not.data.toList.drop 0 = dktX3_not_0 := by decide +kernel
theorem dX3_not_0 : decode cX3_not 0 = .ok (.aload_n 0, 1) := dk_42 (dk_at dksX3_not_0 0 rfl rfl)
theorem dX3_not_1 : decode cX3_not 1 = .ok (.iload_n 1, 1) := dk_27 (dk_at dksX3_not_0 1 rfl rfl)
theorem dX3_not_2 : decode cX3_not 2 = .ok (.putfield 115, 3) := dk_181 0 115 (dk_at dksX3_not_0 2 rfl rfl)
theorem dX3_not_5 : decode cX3_not 5 = .ok (.iconst 0, 1) := dk_3 (dk_at dksX3_not_0 5 rfl rfl)
theorem dX3_not_6 : decode cX3_not 6 = .ok (.ireturn, 1) := dk_172 (dk_at dksX3_not_0 6 rfl rfl)
abbrev cX3_so : ByteArray := prog_22_method_7_code
def yX3_so : MethodName := ⟨RX3, "so", "(Z)Z"⟩
def dkwX3_so_0 : List UInt8 := [42, 3, 181, 0, 115, 27, 172]
abbrev dktX3_so_0 : List UInt8 := dkwX3_so_0 ++ []
theorem dksX3_so_0 : cX3_so.data.toList.drop 0 = dktX3_so_0 := by decide +kernel
theorem dX3_so_0 : decode cX3_so 0 = .ok (.aload_n 0, 1) := dk_42 (dk_at dksX3_so_0 0 rfl rfl)
theorem dX3_so_1 : decode cX3_so 1 = .ok (.iconst 0, 1) := dk_3 (dk_at dksX3_so_0 1 rfl rfl)
theorem dX3_so_2 : decode cX3_so 2 = .ok (.putfield 115, 3) := dk_181 0 115 (dk_at dksX3_so_0 2 rfl rfl)
theorem dX3_so_5 : decode cX3_so 5 = .ok (.iload_n 1, 1) := dk_27 (dk_at dksX3_so_0 5 rfl rfl)
theorem dX3_so_6 : decode cX3_so 6 = .ok (.ireturn, 1) := dk_172 (dk_at dksX3_so_0 6 rfl rfl)
abbrev cX3_feed : ByteArray := prog_22_method_22_code
def yX3_feed : MethodName := ⟨RX3, "feed", "(C)I"⟩
def dkwX3_feed_1 : List UInt8 := [85, 42, 89, 180, 0, 155, 4, 96, 181, 0, 155, 42, 42, 180, 0, 155, 182, 0, 138, 172]
abbrev dktX3_feed_1 : List UInt8 := dkwX3_feed_1 ++ []
def dkwX3_feed_0 : List UInt8 := [42, 180, 0, 155, 16, 50, 160, 0, 9, 42, 4, 182, 0, 130, 172, 42, 180, 0, 20, 42, 180, 0, 155, 27]
abbrev dktX3_feed_0 : List UInt8 := dkwX3_feed_0 ++ dktX3_feed_1
theorem dksX3_feed_0 : cX3_feed.data.toList.drop 0 = dktX3_feed_0 := by decide +kernel
theorem dksX3_feed_1 : cX3_feed.data.toList.drop 24 = dktX3_feed_1 := dk_seg dksX3_feed_0 24 rfl rfl
theorem dX3_feed_0 : decode cX3_feed 0 = .ok (.aload_n 0, 1) := dk_42 (dk_at dksX3_feed_0 0 rfl rfl)
theorem dX3_feed_1 : decode cX3_feed 1 = .ok (.getfield 155, 3) := dk_180 0 155 (dk_at dksX3_feed_0 1 rfl rfl)
theorem dX3_feed_4 : decode cX3_feed 4 = .ok (.bipush 50, 2) := dk_16 50 (dk_at dksX3_feed_0 4 rfl rfl)
theorem dX3_feed_6 : decode cX3_feed 6 = .ok (.if_icmp .ne 9, 3) := dk_160 0 9 (dk_at dksX3_feed_0 6 rfl rfl)
theorem dX3_feed_9 : decode cX3_feed 9 = .ok (.aload_n 0, 1) := dk_42 (dk_at dksX3_feed_0 9 rfl rfl)
theorem dX3_feed_10 : decode cX3_feed 10 = .ok (.iconst 1, 1) := dk_4 (dk_at dksX3_feed_0 10 rfl rfl)
theorem dX3_feed_11 : decode cX3_feed 11 = .ok (.invokevirtual 130, 3) := dk_182 0 130 (dk_at dksX3_feed_0 11 rfl rfl)
theorem dX3_feed_14 : decode cX3_feed 14 = .ok (.ireturn, 1) := dk_172 (dk_at dksX3_feed_0 14 rfl rfl)
theorem dX3_feed_15 : decode cX3_feed 15 = .ok (.aload_n 0, 1) := dk_42 (dk_at dksX3_feed_0 15 rfl rfl)
theorem dX3_feed_16 : decode cX3_feed 16 = .ok (.getfield 20, 3) := dk_180 0 20 (dk_at dksX3_feed_0 16 rfl rfl)
theorem dX3_feed_19 : decode cX3_feed 19 = .ok (.aload_n 0, 1) := dk_42 (dk_at dksX3_feed_0 19 rfl rfl)
theorem dX3_feed_20 : decode cX3_feed 20 = .ok (.getfield 155, 3) := dk_180 0 155 (dk_at dksX3_feed_0 20 rfl rfl)
theorem dX3_feed_23 : decode cX3_feed 23 = .ok (.iload_n 1, 1) := dk_27 (dk_at dksX3_feed_0 23 rfl rfl)
theorem dX3_feed_24 : decode cX3_feed 24 = .ok (.castore, 1) := dk_85 (dk_at dksX3_feed_1 0 rfl rfl)
theorem dX3_feed_25 : decode cX3_feed 25 = .ok (.aload_n 0, 1) := dk_42 (dk_at dksX3_feed_1 1 rfl rfl)
theorem dX3_feed_26 : decode cX3_feed 26 = .ok (.dup, 1) := dk_89 (dk_at dksX3_feed_1 2 rfl rfl)
theorem dX3_feed_27 : decode cX3_feed 27 = .ok (.getfield 155, 3) := dk_180 0 155 (dk_at dksX3_feed_1 3 rfl rfl)
theorem dX3_feed_30 : decode cX3_feed 30 = .ok (.iconst 1, 1) := dk_4 (dk_at dksX3_feed_1 6 rfl rfl)
theorem dX3_feed_31 : decode cX3_feed 31 = .ok (.iadd, 1) := dk_96 (dk_at dksX3_feed_1 7 rfl rfl)
theorem dX3_feed_32 : decode cX3_feed 32 = .ok (.putfield 155, 3) := dk_181 0 155 (dk_at dksX3_feed_1 8 rfl rfl)
theorem dX3_feed_35 : decode cX3_feed 35 = .ok (.aload_n 0, 1) := dk_42 (dk_at dksX3_feed_1 11 rfl rfl)
theorem dX3_feed_36 : decode cX3_feed 36 = .ok (.aload_n 0, 1) := dk_42 (dk_at dksX3_feed_1 12 rfl rfl)
theorem dX3_feed_37 : decode cX3_feed 37 = .ok (.getfield 155, 3) := dk_180 0 155 (dk_at dksX3_feed_1 13 rfl rfl)
theorem dX3_feed_40 : decode cX3_feed 40 = .ok (.invokevirtual 138, 3) := dk_182 0 138 (dk_at dksX3_feed_1 16 rfl rfl)
theorem dX3_feed_43 : decode cX3_feed 43 = .ok (.ireturn, 1) := dk_172 (dk_at dksX3_feed_1 19 rfl rfl)
abbrev cX3_readDocument : ByteArray := prog_22_method_23_code
def yX3_readDocument : MethodName := ⟨RX3, "readDocument", "(I)I"⟩
def dkwX3_readDocument_5 : List UInt8 := [182, 0, 138, 172]
abbrev dktX3_readDocument_5 : List UInt8 := dkwX3_readDocument_5 ++ []
def dkwX3_readDocument_4 : List UInt8 := [27, 182, 0, 134, 42, 27, 42, 180, 0, 39, 42, 180, 0, 158, 182, 0, 141, 42, 42, 180, 0, 158]
abbrev dktX3_readDocument_4 : List UInt8 := dkwX3_readDocument_4 ++ dktX3_readDocument_5
def dkwX3_readDocument_3 : List UInt8 := [180, 0, 152, 100, 182, 0, 138, 172, 42, 180, 0, 158, 16, 24, 164, 0, 9, 42, 5, 182, 0, 130, 172, 42]
abbrev dktX3_readDocument_3 : List UInt8 := dkwX3_readDocument_3 ++ dktX3_readDocument_4
def dkwX3_readDocument_2 : List UInt8 := [162, 0, 11, 42, 184, 0, 171, 61, 167, 255, 236, 42, 3, 181, 0, 155, 28, 154, 0, 15, 42, 16, 156, 42]
abbrev dktX3_readDocument_2 : List UInt8 := dkwX3_readDocument_2 ++ dktX3_readDocument_3
def dkwX3_readDocument_1 : List UInt8 := [3, 181, 0, 168, 42, 3, 181, 0, 158, 4, 61, 28, 153, 0, 22, 42, 180, 0, 152, 42, 180, 0, 155]
abbrev dktX3_readDocument_1 : List UInt8 := dkwX3_readDocument_1 ++ dktX3_readDocument_2
def dkwX3_readDocument_0 : List UInt8 := [27, 184, 0, 126, 154, 0, 14, 42, 3, 181, 0, 155, 42, 4, 182, 0, 130, 172, 42, 3, 181, 0, 152, 42]
abbrev dktX3_readDocument_0 : List UInt8 := dkwX3_readDocument_0 ++ dktX3_readDocument_1
theorem dksX3_readDocument_0 : cX3_readDocument.data.toList.drop 0 = dktX3_readDocument_0 := by decide +kernel
theorem dksX3_readDocument_1 : cX3_readDocument.data.toList.drop 24 = dktX3_readDocument_1 := dk_seg dksX3_readDocument_0 24 rfl rfl
theorem dksX3_readDocument_2 : cX3_readDocument.data.toList.drop 47 = dktX3_readDocument_2 := dk_seg dksX3_readDocument_1 23 rfl rfl
theorem dksX3_readDocument_3 : cX3_readDocument.data.toList.drop 71 = dktX3_readDocument_3 := dk_seg dksX3_readDocument_2 24 rfl rfl
theorem dksX3_readDocument_4 : cX3_readDocument.data.toList.drop 95 = dktX3_readDocument_4 := dk_seg dksX3_readDocument_3 24 rfl rfl
theorem dksX3_readDocument_5 : cX3_readDocument.data.toList.drop 117 = dktX3_readDocument_5 := dk_seg dksX3_readDocument_4 22 rfl rfl
theorem dX3_readDocument_0 : decode cX3_readDocument 0 = .ok (.iload_n 1, 1) := dk_27 (dk_at dksX3_readDocument_0 0 rfl rfl)
theorem dX3_readDocument_1 : decode cX3_readDocument 1 = .ok (.invokestatic 126, 3) := dk_184 0 126 (dk_at dksX3_readDocument_0 1 rfl rfl)
theorem dX3_readDocument_4 : decode cX3_readDocument 4 = .ok (.ifCond .ne 14, 3) := dk_154 0 14 (dk_at dksX3_readDocument_0 4 rfl rfl)
theorem dX3_readDocument_7 : decode cX3_readDocument 7 = .ok (.aload_n 0, 1) := dk_42 (dk_at dksX3_readDocument_0 7 rfl rfl)
theorem dX3_readDocument_8 : decode cX3_readDocument 8 = .ok (.iconst 0, 1) := dk_3 (dk_at dksX3_readDocument_0 8 rfl rfl)
theorem dX3_readDocument_9 : decode cX3_readDocument 9 = .ok (.putfield 155, 3) := dk_181 0 155 (dk_at dksX3_readDocument_0 9 rfl rfl)
theorem dX3_readDocument_12 : decode cX3_readDocument 12 = .ok (.aload_n 0, 1) := dk_42 (dk_at dksX3_readDocument_0 12 rfl rfl)
theorem dX3_readDocument_13 : decode cX3_readDocument 13 = .ok (.iconst 1, 1) := dk_4 (dk_at dksX3_readDocument_0 13 rfl rfl)
theorem dX3_readDocument_14 : decode cX3_readDocument 14 = .ok (.invokevirtual 130, 3) := dk_182 0 130 (dk_at dksX3_readDocument_0 14 rfl rfl)
theorem dX3_readDocument_17 : decode cX3_readDocument 17 = .ok (.ireturn, 1) := dk_172 (dk_at dksX3_readDocument_0 17 rfl rfl)
theorem dX3_readDocument_18 : decode cX3_readDocument 18 = .ok (.aload_n 0, 1) := dk_42 (dk_at dksX3_readDocument_0 18 rfl rfl)
theorem dX3_readDocument_19 : decode cX3_readDocument 19 = .ok (.iconst 0, 1) := dk_3 (dk_at dksX3_readDocument_0 19 rfl rfl)
theorem dX3_readDocument_20 : decode cX3_readDocument 20 = .ok (.putfield 152, 3) := dk_181 0 152 (dk_at dksX3_readDocument_0 20 rfl rfl)
theorem dX3_readDocument_23 : decode cX3_readDocument 23 = .ok (.aload_n 0, 1) := dk_42 (dk_at dksX3_readDocument_0 23 rfl rfl)
theorem dX3_readDocument_24 : decode cX3_readDocument 24 = .ok (.iconst 0, 1) := dk_3 (dk_at dksX3_readDocument_1 0 rfl rfl)
theorem dX3_readDocument_25 : decode cX3_readDocument 25 = .ok (.putfield 168, 3) := dk_181 0 168 (dk_at dksX3_readDocument_1 1 rfl rfl)
theorem dX3_readDocument_28 : decode cX3_readDocument 28 = .ok (.aload_n 0, 1) := dk_42 (dk_at dksX3_readDocument_1 4 rfl rfl)
theorem dX3_readDocument_29 : decode cX3_readDocument 29 = .ok (.iconst 0, 1) := dk_3 (dk_at dksX3_readDocument_1 5 rfl rfl)
theorem dX3_readDocument_30 : decode cX3_readDocument 30 = .ok (.putfield 158, 3) := dk_181 0 158 (dk_at dksX3_readDocument_1 6 rfl rfl)
theorem dX3_readDocument_33 : decode cX3_readDocument 33 = .ok (.iconst 1, 1) := dk_4 (dk_at dksX3_readDocument_1 9 rfl rfl)
theorem dX3_readDocument_34 : decode cX3_readDocument 34 = .ok (.istore_n 2, 1) := dk_61 (dk_at dksX3_readDocument_1 10 rfl rfl)
theorem dX3_readDocument_35 : decode cX3_readDocument 35 = .ok (.iload_n 2, 1) := dk_28 (dk_at dksX3_readDocument_1 11 rfl rfl)
theorem dX3_readDocument_36 : decode cX3_readDocument 36 = .ok (.ifCond .eq 22, 3) := dk_153 0 22 (dk_at dksX3_readDocument_1 12 rfl rfl)
theorem dX3_readDocument_39 : decode cX3_readDocument 39 = .ok (.aload_n 0, 1) := dk_42 (dk_at dksX3_readDocument_1 15 rfl rfl)
theorem dX3_readDocument_40 : decode cX3_readDocument 40 = .ok (.getfield 152, 3) := dk_180 0 152 (dk_at dksX3_readDocument_1 16 rfl rfl)
theorem dX3_readDocument_43 : decode cX3_readDocument 43 = .ok (.aload_n 0, 1) := dk_42 (dk_at dksX3_readDocument_1 19 rfl rfl)
theorem dX3_readDocument_44 : decode cX3_readDocument 44 = .ok (.getfield 155, 3) := dk_180 0 155 (dk_at dksX3_readDocument_1 20 rfl rfl)
theorem dX3_readDocument_47 : decode cX3_readDocument 47 = .ok (.if_icmp .ge 11, 3) := dk_162 0 11 (dk_at dksX3_readDocument_2 0 rfl rfl)
theorem dX3_readDocument_50 : decode cX3_readDocument 50 = .ok (.aload_n 0, 1) := dk_42 (dk_at dksX3_readDocument_2 3 rfl rfl)
theorem dX3_readDocument_51 : decode cX3_readDocument 51 = .ok (.invokestatic 171, 3) := dk_184 0 171 (dk_at dksX3_readDocument_2 4 rfl rfl)
theorem dX3_readDocument_54 : decode cX3_readDocument 54 = .ok (.istore_n 2, 1) := dk_61 (dk_at dksX3_readDocument_2 7 rfl rfl)
theorem dX3_readDocument_55 : decode cX3_readDocument 55 = .ok (.goto (-20), 3) := dk_167 255 236 (dk_at dksX3_readDocument_2 8 rfl rfl)
theorem dX3_readDocument_58 : decode cX3_readDocument 58 = .ok (.aload_n 0, 1) := dk_42 (dk_at dksX3_readDocument_2 11 rfl rfl)
theorem dX3_readDocument_59 : decode cX3_readDocument 59 = .ok (.iconst 0, 1) := dk_3 (dk_at dksX3_readDocument_2 12 rfl rfl)
theorem dX3_readDocument_60 : decode cX3_readDocument 60 = .ok (.putfield 155, 3) := dk_181 0 155 (dk_at dksX3_readDocument_2 13 rfl rfl)
theorem dX3_readDocument_63 : decode cX3_readDocument 63 = .ok (.iload_n 2, 1) := dk_28 (dk_at dksX3_readDocument_2 16 rfl rfl)
theorem dX3_readDocument_64 : decode cX3_readDocument 64 = .ok (.ifCond .ne 15, 3) := dk_154 0 15 (dk_at dksX3_readDocument_2 17 rfl rfl)
theorem dX3_readDocument_67 : decode cX3_readDocument 67 = .ok (.aload_n 0, 1) := dk_42 (dk_at dksX3_readDocument_2 20 rfl rfl)
theorem dX3_readDocument_68 : decode cX3_readDocument 68 = .ok (.bipush (-100), 2) := dk_16 156 (dk_at dksX3_readDocument_2 21 rfl rfl)
theorem dX3_readDocument_70 : decode cX3_readDocument 70 = .ok (.aload_n 0, 1) := dk_42 (dk_at dksX3_readDocument_2 23 rfl rfl)
theorem dX3_readDocument_71 : decode cX3_readDocument 71 = .ok (.getfield 152, 3) := dk_180 0 152 (dk_at dksX3_readDocument_3 0 rfl rfl)
theorem dX3_readDocument_74 : decode cX3_readDocument 74 = .ok (.isub, 1) := dk_100 (dk_at dksX3_readDocument_3 3 rfl rfl)
theorem dX3_readDocument_75 : decode cX3_readDocument 75 = .ok (.invokevirtual 138, 3) := dk_182 0 138 (dk_at dksX3_readDocument_3 4 rfl rfl)
theorem dX3_readDocument_78 : decode cX3_readDocument 78 = .ok (.ireturn, 1) := dk_172 (dk_at dksX3_readDocument_3 7 rfl rfl)
theorem dX3_readDocument_79 : decode cX3_readDocument 79 = .ok (.aload_n 0, 1) := dk_42 (dk_at dksX3_readDocument_3 8 rfl rfl)
theorem dX3_readDocument_80 : decode cX3_readDocument 80 = .ok (.getfield 158, 3) := dk_180 0 158 (dk_at dksX3_readDocument_3 9 rfl rfl)
theorem dX3_readDocument_83 : decode cX3_readDocument 83 = .ok (.bipush 24, 2) := dk_16 24 (dk_at dksX3_readDocument_3 12 rfl rfl)
theorem dX3_readDocument_85 : decode cX3_readDocument 85 = .ok (.if_icmp .le 9, 3) := dk_164 0 9 (dk_at dksX3_readDocument_3 14 rfl rfl)
theorem dX3_readDocument_88 : decode cX3_readDocument 88 = .ok (.aload_n 0, 1) := dk_42 (dk_at dksX3_readDocument_3 17 rfl rfl)
theorem dX3_readDocument_89 : decode cX3_readDocument 89 = .ok (.iconst 2, 1) := dk_5 (dk_at dksX3_readDocument_3 18 rfl rfl)
theorem dX3_readDocument_90 : decode cX3_readDocument 90 = .ok (.invokevirtual 130, 3) := dk_182 0 130 (dk_at dksX3_readDocument_3 19 rfl rfl)
theorem dX3_readDocument_93 : decode cX3_readDocument 93 = .ok (.ireturn, 1) := dk_172 (dk_at dksX3_readDocument_3 22 rfl rfl)
theorem dX3_readDocument_94 : decode cX3_readDocument 94 = .ok (.aload_n 0, 1) := dk_42 (dk_at dksX3_readDocument_3 23 rfl rfl)
theorem dX3_readDocument_95 : decode cX3_readDocument 95 = .ok (.iload_n 1, 1) := dk_27 (dk_at dksX3_readDocument_4 0 rfl rfl)
theorem dX3_readDocument_96 : decode cX3_readDocument 96 = .ok (.invokevirtual 134, 3) := dk_182 0 134 (dk_at dksX3_readDocument_4 1 rfl rfl)
theorem dX3_readDocument_99 : decode cX3_readDocument 99 = .ok (.aload_n 0, 1) := dk_42 (dk_at dksX3_readDocument_4 4 rfl rfl)
theorem dX3_readDocument_100 : decode cX3_readDocument 100 = .ok (.iload_n 1, 1) := dk_27 (dk_at dksX3_readDocument_4 5 rfl rfl)
theorem dX3_readDocument_101 : decode cX3_readDocument 101 = .ok (.aload_n 0, 1) := dk_42 (dk_at dksX3_readDocument_4 6 rfl rfl)
theorem dX3_readDocument_102 : decode cX3_readDocument 102 = .ok (.getfield 39, 3) := dk_180 0 39 (dk_at dksX3_readDocument_4 7 rfl rfl)
theorem dX3_readDocument_105 : decode cX3_readDocument 105 = .ok (.aload_n 0, 1) := dk_42 (dk_at dksX3_readDocument_4 10 rfl rfl)
theorem dX3_readDocument_106 : decode cX3_readDocument 106 = .ok (.getfield 158, 3) := dk_180 0 158 (dk_at dksX3_readDocument_4 11 rfl rfl)
theorem dX3_readDocument_109 : decode cX3_readDocument 109 = .ok (.invokevirtual 141, 3) := dk_182 0 141 (dk_at dksX3_readDocument_4 14 rfl rfl)
theorem dX3_readDocument_112 : decode cX3_readDocument 112 = .ok (.aload_n 0, 1) := dk_42 (dk_at dksX3_readDocument_4 17 rfl rfl)
theorem dX3_readDocument_113 : decode cX3_readDocument 113 = .ok (.aload_n 0, 1) := dk_42 (dk_at dksX3_readDocument_4 18 rfl rfl)
theorem dX3_readDocument_114 : decode cX3_readDocument 114 = .ok (.getfield 158, 3) := dk_180 0 158 (dk_at dksX3_readDocument_4 19 rfl rfl)
theorem dX3_readDocument_117 : decode cX3_readDocument 117 = .ok (.invokevirtual 138, 3) := dk_182 0 138 (dk_at dksX3_readDocument_5 0 rfl rfl)
theorem dX3_readDocument_120 : decode cX3_readDocument 120 = .ok (.ireturn, 1) := dk_172 (dk_at dksX3_readDocument_5 3 rfl rfl)
abbrev cX3_readsItem : ByteArray := prog_22_method_21_code
def yX3_readsItem : MethodName := ⟨RX3, "readsItem", "(LMergeWorkbenchModel;)Z"⟩
def dkwX3_readsItem_6 : List UInt8 := [172]
abbrev dktX3_readsItem_6 : List UInt8 := dkwX3_readsItem_6 ++ []
def dkwX3_readsItem_5 : List UInt8 := [180, 0, 152, 4, 96, 181, 0, 152, 42, 89, 180, 0, 168, 4, 100, 181, 0, 168, 42, 27, 182, 0, 175, 4]
abbrev dktX3_readsItem_5 : List UInt8 := dkwX3_readsItem_5 ++ dktX3_readsItem_6
def dkwX3_readsItem_4 : List UInt8 := [182, 0, 161, 16, 41, 159, 0, 11, 42, 184, 0, 171, 61, 167, 255, 238, 28, 154, 0, 5, 3, 172, 42, 89]
abbrev dktX3_readsItem_4 : List UInt8 := dkwX3_readsItem_4 ++ dktX3_readsItem_5
def dkwX3_readsItem_3 : List UInt8 := [181, 0, 168, 42, 89, 180, 0, 152, 4, 96, 181, 0, 152, 42, 184, 0, 171, 61, 28, 153, 0, 20, 42]
abbrev dktX3_readsItem_3 : List UInt8 := dkwX3_readsItem_3 ++ dktX3_readsItem_4
def dkwX3_readsItem_2 : List UInt8 := [16, 40, 160, 0, 11, 42, 180, 0, 168, 7, 160, 0, 5, 3, 172, 42, 89, 180, 0, 168, 4, 96]
abbrev dktX3_readsItem_2 : List UInt8 := dkwX3_readsItem_2 ++ dktX3_readsItem_3
def dkwX3_readsItem_1 : List UInt8 := [16, 97, 100, 182, 0, 165, 42, 89, 180, 0, 152, 4, 96, 181, 0, 152, 167, 0, 94, 42, 182, 0, 161]
abbrev dktX3_readsItem_1 : List UInt8 := dkwX3_readsItem_1 ++ dktX3_readsItem_2
def dkwX3_readsItem_0 : List UInt8 := [42, 180, 0, 158, 60, 42, 182, 0, 161, 16, 97, 16, 122, 184, 0, 119, 153, 0, 27, 42, 42, 182, 0, 161]
abbrev dktX3_readsItem_0 : List UInt8 := dkwX3_readsItem_0 ++ dktX3_readsItem_1
theorem dksX3_readsItem_0 : cX3_readsItem.data.toList.drop 0 = dktX3_readsItem_0 := by decide +kernel
theorem dksX3_readsItem_1 : cX3_readsItem.data.toList.drop 24 = dktX3_readsItem_1 := dk_seg dksX3_readsItem_0 24 rfl rfl
theorem dksX3_readsItem_2 : cX3_readsItem.data.toList.drop 47 = dktX3_readsItem_2 := dk_seg dksX3_readsItem_1 23 rfl rfl
theorem dksX3_readsItem_3 : cX3_readsItem.data.toList.drop 69 = dktX3_readsItem_3 := dk_seg dksX3_readsItem_2 22 rfl rfl
theorem dksX3_readsItem_4 : cX3_readsItem.data.toList.drop 92 = dktX3_readsItem_4 := dk_seg dksX3_readsItem_3 23 rfl rfl
theorem dksX3_readsItem_5 : cX3_readsItem.data.toList.drop 116 = dktX3_readsItem_5 := dk_seg dksX3_readsItem_4 24 rfl rfl
theorem dksX3_readsItem_6 : cX3_readsItem.data.toList.drop 140 = dktX3_readsItem_6 := dk_seg dksX3_readsItem_5 24 rfl rfl
theorem dX3_readsItem_0 : decode cX3_readsItem 0 = .ok (.aload_n 0, 1) := dk_42 (dk_at dksX3_readsItem_0 0 rfl rfl)
theorem dX3_readsItem_1 : decode cX3_readsItem 1 = .ok (.getfield 158, 3) := dk_180 0 158 (dk_at dksX3_readsItem_0 1 rfl rfl)
theorem dX3_readsItem_4 : decode cX3_readsItem 4 = .ok (.istore_n 1, 1) := dk_60 (dk_at dksX3_readsItem_0 4 rfl rfl)
theorem dX3_readsItem_5 : decode cX3_readsItem 5 = .ok (.aload_n 0, 1) := dk_42 (dk_at dksX3_readsItem_0 5 rfl rfl)
theorem dX3_readsItem_6 : decode cX3_readsItem 6 = .ok (.invokevirtual 161, 3) := dk_182 0 161 (dk_at dksX3_readsItem_0 6 rfl rfl)
theorem dX3_readsItem_9 : decode cX3_readsItem 9 = .ok (.bipush 97, 2) := dk_16 97 (dk_at dksX3_readsItem_0 9 rfl rfl)
theorem dX3_readsItem_11 : decode cX3_readsItem 11 = .ok (.bipush 122, 2) := dk_16 122 (dk_at dksX3_readsItem_0 11 rfl rfl)
theorem dX3_readsItem_13 : decode cX3_readsItem 13 = .ok (.invokestatic 119, 3) := dk_184 0 119 (dk_at dksX3_readsItem_0 13 rfl rfl)
theorem dX3_readsItem_16 : decode cX3_readsItem 16 = .ok (.ifCond .eq 27, 3) := dk_153 0 27 (dk_at dksX3_readsItem_0 16 rfl rfl)
theorem dX3_readsItem_19 : decode cX3_readsItem 19 = .ok (.aload_n 0, 1) := dk_42 (dk_at dksX3_readsItem_0 19 rfl rfl)
theorem dX3_readsItem_20 : decode cX3_readsItem 20 = .ok (.aload_n 0, 1) := dk_42 (dk_at dksX3_readsItem_0 20 rfl rfl)
theorem dX3_readsItem_21 : decode cX3_readsItem 21 = .ok (.invokevirtual 161, 3) := dk_182 0 161 (dk_at dksX3_readsItem_0 21 rfl rfl)
theorem dX3_readsItem_24 : decode cX3_readsItem 24 = .ok (.bipush 97, 2) := dk_16 97 (dk_at dksX3_readsItem_1 0 rfl rfl)
theorem dX3_readsItem_26 : decode cX3_readsItem 26 = .ok (.isub, 1) := dk_100 (dk_at dksX3_readsItem_1 2 rfl rfl)
theorem dX3_readsItem_27 : decode cX3_readsItem 27 = .ok (.invokevirtual 165, 3) := dk_182 0 165 (dk_at dksX3_readsItem_1 3 rfl rfl)
theorem dX3_readsItem_30 : decode cX3_readsItem 30 = .ok (.aload_n 0, 1) := dk_42 (dk_at dksX3_readsItem_1 6 rfl rfl)
theorem dX3_readsItem_31 : decode cX3_readsItem 31 = .ok (.dup, 1) := dk_89 (dk_at dksX3_readsItem_1 7 rfl rfl)
theorem dX3_readsItem_32 : decode cX3_readsItem 32 = .ok (.getfield 152, 3) := dk_180 0 152 (dk_at dksX3_readsItem_1 8 rfl rfl)
theorem dX3_readsItem_35 : decode cX3_readsItem 35 = .ok (.iconst 1, 1) := dk_4 (dk_at dksX3_readsItem_1 11 rfl rfl)
theorem dX3_readsItem_36 : decode cX3_readsItem 36 = .ok (.iadd, 1) := dk_96 (dk_at dksX3_readsItem_1 12 rfl rfl)
theorem dX3_readsItem_37 : decode cX3_readsItem 37 = .ok (.putfield 152, 3) := dk_181 0 152 (dk_at dksX3_readsItem_1 13 rfl rfl)
theorem dX3_readsItem_40 : decode cX3_readsItem 40 = .ok (.goto 94, 3) := dk_167 0 94 (dk_at dksX3_readsItem_1 16 rfl rfl)
theorem dX3_readsItem_43 : decode cX3_readsItem 43 = .ok (.aload_n 0, 1) := dk_42 (dk_at dksX3_readsItem_1 19 rfl rfl)
theorem dX3_readsItem_44 : decode cX3_readsItem 44 = .ok (.invokevirtual 161, 3) := dk_182 0 161 (dk_at dksX3_readsItem_1 20 rfl rfl)
theorem dX3_readsItem_47 : decode cX3_readsItem 47 = .ok (.bipush 40, 2) := dk_16 40 (dk_at dksX3_readsItem_2 0 rfl rfl)
theorem dX3_readsItem_49 : decode cX3_readsItem 49 = .ok (.if_icmp .ne 11, 3) := dk_160 0 11 (dk_at dksX3_readsItem_2 2 rfl rfl)
theorem dX3_readsItem_52 : decode cX3_readsItem 52 = .ok (.aload_n 0, 1) := dk_42 (dk_at dksX3_readsItem_2 5 rfl rfl)
theorem dX3_readsItem_53 : decode cX3_readsItem 53 = .ok (.getfield 168, 3) := dk_180 0 168 (dk_at dksX3_readsItem_2 6 rfl rfl)
theorem dX3_readsItem_56 : decode cX3_readsItem 56 = .ok (.iconst 4, 1) := dk_7 (dk_at dksX3_readsItem_2 9 rfl rfl)
theorem dX3_readsItem_57 : decode cX3_readsItem 57 = .ok (.if_icmp .ne 5, 3) := dk_160 0 5 (dk_at dksX3_readsItem_2 10 rfl rfl)
theorem dX3_readsItem_60 : decode cX3_readsItem 60 = .ok (.iconst 0, 1) := dk_3 (dk_at dksX3_readsItem_2 13 rfl rfl)
theorem dX3_readsItem_61 : decode cX3_readsItem 61 = .ok (.ireturn, 1) := dk_172 (dk_at dksX3_readsItem_2 14 rfl rfl)
theorem dX3_readsItem_62 : decode cX3_readsItem 62 = .ok (.aload_n 0, 1) := dk_42 (dk_at dksX3_readsItem_2 15 rfl rfl)
theorem dX3_readsItem_63 : decode cX3_readsItem 63 = .ok (.dup, 1) := dk_89 (dk_at dksX3_readsItem_2 16 rfl rfl)
theorem dX3_readsItem_64 : decode cX3_readsItem 64 = .ok (.getfield 168, 3) := dk_180 0 168 (dk_at dksX3_readsItem_2 17 rfl rfl)
theorem dX3_readsItem_67 : decode cX3_readsItem 67 = .ok (.iconst 1, 1) := dk_4 (dk_at dksX3_readsItem_2 20 rfl rfl)
theorem dX3_readsItem_68 : decode cX3_readsItem 68 = .ok (.iadd, 1) := dk_96 (dk_at dksX3_readsItem_2 21 rfl rfl)
theorem dX3_readsItem_69 : decode cX3_readsItem 69 = .ok (.putfield 168, 3) := dk_181 0 168 (dk_at dksX3_readsItem_3 0 rfl rfl)
theorem dX3_readsItem_72 : decode cX3_readsItem 72 = .ok (.aload_n 0, 1) := dk_42 (dk_at dksX3_readsItem_3 3 rfl rfl)
theorem dX3_readsItem_73 : decode cX3_readsItem 73 = .ok (.dup, 1) := dk_89 (dk_at dksX3_readsItem_3 4 rfl rfl)
theorem dX3_readsItem_74 : decode cX3_readsItem 74 = .ok (.getfield 152, 3) := dk_180 0 152 (dk_at dksX3_readsItem_3 5 rfl rfl)
theorem dX3_readsItem_77 : decode cX3_readsItem 77 = .ok (.iconst 1, 1) := dk_4 (dk_at dksX3_readsItem_3 8 rfl rfl)
theorem dX3_readsItem_78 : decode cX3_readsItem 78 = .ok (.iadd, 1) := dk_96 (dk_at dksX3_readsItem_3 9 rfl rfl)
theorem dX3_readsItem_79 : decode cX3_readsItem 79 = .ok (.putfield 152, 3) := dk_181 0 152 (dk_at dksX3_readsItem_3 10 rfl rfl)
theorem dX3_readsItem_82 : decode cX3_readsItem 82 = .ok (.aload_n 0, 1) := dk_42 (dk_at dksX3_readsItem_3 13 rfl rfl)
theorem dX3_readsItem_83 : decode cX3_readsItem 83 = .ok (.invokestatic 171, 3) := dk_184 0 171 (dk_at dksX3_readsItem_3 14 rfl rfl)
theorem dX3_readsItem_86 : decode cX3_readsItem 86 = .ok (.istore_n 2, 1) := dk_61 (dk_at dksX3_readsItem_3 17 rfl rfl)
theorem dX3_readsItem_87 : decode cX3_readsItem 87 = .ok (.iload_n 2, 1) := dk_28 (dk_at dksX3_readsItem_3 18 rfl rfl)
theorem dX3_readsItem_88 : decode cX3_readsItem 88 = .ok (.ifCond .eq 20, 3) := dk_153 0 20 (dk_at dksX3_readsItem_3 19 rfl rfl)
theorem dX3_readsItem_91 : decode cX3_readsItem 91 = .ok (.aload_n 0, 1) := dk_42 (dk_at dksX3_readsItem_3 22 rfl rfl)
theorem dX3_readsItem_92 : decode cX3_readsItem 92 = .ok (.invokevirtual 161, 3) := dk_182 0 161 (dk_at dksX3_readsItem_4 0 rfl rfl)
theorem dX3_readsItem_95 : decode cX3_readsItem 95 = .ok (.bipush 41, 2) := dk_16 41 (dk_at dksX3_readsItem_4 3 rfl rfl)
theorem dX3_readsItem_97 : decode cX3_readsItem 97 = .ok (.if_icmp .eq 11, 3) := dk_159 0 11 (dk_at dksX3_readsItem_4 5 rfl rfl)
theorem dX3_readsItem_100 : decode cX3_readsItem 100 = .ok (.aload_n 0, 1) := dk_42 (dk_at dksX3_readsItem_4 8 rfl rfl)
theorem dX3_readsItem_101 : decode cX3_readsItem 101 = .ok (.invokestatic 171, 3) := dk_184 0 171 (dk_at dksX3_readsItem_4 9 rfl rfl)
theorem dX3_readsItem_104 : decode cX3_readsItem 104 = .ok (.istore_n 2, 1) := dk_61 (dk_at dksX3_readsItem_4 12 rfl rfl)
theorem dX3_readsItem_105 : decode cX3_readsItem 105 = .ok (.goto (-18), 3) := dk_167 255 238 (dk_at dksX3_readsItem_4 13 rfl rfl)
theorem dX3_readsItem_108 : decode cX3_readsItem 108 = .ok (.iload_n 2, 1) := dk_28 (dk_at dksX3_readsItem_4 16 rfl rfl)
theorem dX3_readsItem_109 : decode cX3_readsItem 109 = .ok (.ifCond .ne 5, 3) := dk_154 0 5 (dk_at dksX3_readsItem_4 17 rfl rfl)
theorem dX3_readsItem_112 : decode cX3_readsItem 112 = .ok (.iconst 0, 1) := dk_3 (dk_at dksX3_readsItem_4 20 rfl rfl)
theorem dX3_readsItem_113 : decode cX3_readsItem 113 = .ok (.ireturn, 1) := dk_172 (dk_at dksX3_readsItem_4 21 rfl rfl)
theorem dX3_readsItem_114 : decode cX3_readsItem 114 = .ok (.aload_n 0, 1) := dk_42 (dk_at dksX3_readsItem_4 22 rfl rfl)
theorem dX3_readsItem_115 : decode cX3_readsItem 115 = .ok (.dup, 1) := dk_89 (dk_at dksX3_readsItem_4 23 rfl rfl)
theorem dX3_readsItem_116 : decode cX3_readsItem 116 = .ok (.getfield 152, 3) := dk_180 0 152 (dk_at dksX3_readsItem_5 0 rfl rfl)
theorem dX3_readsItem_119 : decode cX3_readsItem 119 = .ok (.iconst 1, 1) := dk_4 (dk_at dksX3_readsItem_5 3 rfl rfl)
theorem dX3_readsItem_120 : decode cX3_readsItem 120 = .ok (.iadd, 1) := dk_96 (dk_at dksX3_readsItem_5 4 rfl rfl)
theorem dX3_readsItem_121 : decode cX3_readsItem 121 = .ok (.putfield 152, 3) := dk_181 0 152 (dk_at dksX3_readsItem_5 5 rfl rfl)
theorem dX3_readsItem_124 : decode cX3_readsItem 124 = .ok (.aload_n 0, 1) := dk_42 (dk_at dksX3_readsItem_5 8 rfl rfl)
theorem dX3_readsItem_125 : decode cX3_readsItem 125 = .ok (.dup, 1) := dk_89 (dk_at dksX3_readsItem_5 9 rfl rfl)
theorem dX3_readsItem_126 : decode cX3_readsItem 126 = .ok (.getfield 168, 3) := dk_180 0 168 (dk_at dksX3_readsItem_5 10 rfl rfl)
theorem dX3_readsItem_129 : decode cX3_readsItem 129 = .ok (.iconst 1, 1) := dk_4 (dk_at dksX3_readsItem_5 13 rfl rfl)
theorem dX3_readsItem_130 : decode cX3_readsItem 130 = .ok (.isub, 1) := dk_100 (dk_at dksX3_readsItem_5 14 rfl rfl)
theorem dX3_readsItem_131 : decode cX3_readsItem 131 = .ok (.putfield 168, 3) := dk_181 0 168 (dk_at dksX3_readsItem_5 15 rfl rfl)
theorem dX3_readsItem_134 : decode cX3_readsItem 134 = .ok (.aload_n 0, 1) := dk_42 (dk_at dksX3_readsItem_5 18 rfl rfl)
theorem dX3_readsItem_135 : decode cX3_readsItem 135 = .ok (.iload_n 1, 1) := dk_27 (dk_at dksX3_readsItem_5 19 rfl rfl)
theorem dX3_readsItem_136 : decode cX3_readsItem 136 = .ok (.invokevirtual 175, 3) := dk_182 0 175 (dk_at dksX3_readsItem_5 20 rfl rfl)
theorem dX3_readsItem_139 : decode cX3_readsItem 139 = .ok (.iconst 1, 1) := dk_4 (dk_at dksX3_readsItem_5 23 rfl rfl)
theorem dX3_readsItem_140 : decode cX3_readsItem 140 = .ok (.ireturn, 1) := dk_172 (dk_at dksX3_readsItem_6 0 rfl rfl)
abbrev cX3_here : ByteArray := prog_22_method_18_code
def yX3_here : MethodName := ⟨RX3, "here", "()I"⟩
def dkwX3_here_1 : List UInt8 := [172]
abbrev dktX3_here_1 : List UInt8 := dkwX3_here_1 ++ []
def dkwX3_here_0 : List UInt8 := [42, 180, 0, 152, 42, 180, 0, 155, 162, 0, 15, 42, 180, 0, 20, 42, 180, 0, 152, 52, 167, 0, 4, 3]
abbrev dktX3_here_0 : List UInt8 := dkwX3_here_0 ++ dktX3_here_1
theorem dksX3_here_0 : cX3_here.data.toList.drop 0 = dktX3_here_0 := by decide +kernel
theorem dksX3_here_1 : cX3_here.data.toList.drop 24 = dktX3_here_1 := dk_seg dksX3_here_0 24 rfl rfl
theorem dX3_here_0 : decode cX3_here 0 = .ok (.aload_n 0, 1) := dk_42 (dk_at dksX3_here_0 0 rfl rfl)
theorem dX3_here_1 : decode cX3_here 1 = .ok (.getfield 152, 3) := dk_180 0 152 (dk_at dksX3_here_0 1 rfl rfl)
theorem dX3_here_4 : decode cX3_here 4 = .ok (.aload_n 0, 1) := dk_42 (dk_at dksX3_here_0 4 rfl rfl)
theorem dX3_here_5 : decode cX3_here 5 = .ok (.getfield 155, 3) := dk_180 0 155 (dk_at dksX3_here_0 5 rfl rfl)
theorem dX3_here_8 : decode cX3_here 8 = .ok (.if_icmp .ge 15, 3) := dk_162 0 15 (dk_at dksX3_here_0 8 rfl rfl)
theorem dX3_here_11 : decode cX3_here 11 = .ok (.aload_n 0, 1) := dk_42 (dk_at dksX3_here_0 11 rfl rfl)
theorem dX3_here_12 : decode cX3_here 12 = .ok (.getfield 20, 3) := dk_180 0 20 (dk_at dksX3_here_0 12 rfl rfl)
theorem dX3_here_15 : decode cX3_here 15 = .ok (.aload_n 0, 1) := dk_42 (dk_at dksX3_here_0 15 rfl rfl)
theorem dX3_here_16 : decode cX3_here 16 = .ok (.getfield 152, 3) := dk_180 0 152 (dk_at dksX3_here_0 16 rfl rfl)
theorem dX3_here_19 : decode cX3_here 19 = .ok (.caload, 1) := dk_52 (dk_at dksX3_here_0 19 rfl rfl)
theorem dX3_here_20 : decode cX3_here 20 = .ok (.goto 4, 3) := dk_167 0 4 (dk_at dksX3_here_0 20 rfl rfl)
theorem dX3_here_23 : decode cX3_here 23 = .ok (.iconst 0, 1) := dk_3 (dk_at dksX3_here_0 23 rfl rfl)
theorem dX3_here_24 : decode cX3_here 24 = .ok (.ireturn, 1) := dk_172 (dk_at dksX3_here_1 0 rfl rfl)
abbrev cX3_comes : ByteArray := prog_22_method_19_code
def yX3_comes : MethodName := ⟨RX3, "comes", "(I)V"⟩
def dkwX3_comes_1 : List UInt8 := [180, 0, 158, 4, 96, 181, 0, 158, 177]
abbrev dktX3_comes_1 : List UInt8 := dkwX3_comes_1 ++ []
def dkwX3_comes_0 : List UInt8 := [42, 180, 0, 158, 17, 7, 207, 162, 0, 23, 42, 180, 0, 39, 42, 180, 0, 158, 27, 79, 42, 89]
abbrev dktX3_comes_0 : List UInt8 := dkwX3_comes_0 ++ dktX3_comes_1
theorem dksX3_comes_0 : cX3_comes.data.toList.drop 0 = dktX3_comes_0 := by decide +kernel
theorem dksX3_comes_1 : cX3_comes.data.toList.drop 22 = dktX3_comes_1 := dk_seg dksX3_comes_0 22 rfl rfl
theorem dX3_comes_0 : decode cX3_comes 0 = .ok (.aload_n 0, 1) := dk_42 (dk_at dksX3_comes_0 0 rfl rfl)
theorem dX3_comes_1 : decode cX3_comes 1 = .ok (.getfield 158, 3) := dk_180 0 158 (dk_at dksX3_comes_0 1 rfl rfl)
theorem dX3_comes_4 : decode cX3_comes 4 = .ok (.sipush 1999, 3) := dk_17 7 207 (dk_at dksX3_comes_0 4 rfl rfl)
theorem dX3_comes_7 : decode cX3_comes 7 = .ok (.if_icmp .ge 23, 3) := dk_162 0 23 (dk_at dksX3_comes_0 7 rfl rfl)
theorem dX3_comes_10 : decode cX3_comes 10 = .ok (.aload_n 0, 1) := dk_42 (dk_at dksX3_comes_0 10 rfl rfl)
theorem dX3_comes_11 : decode cX3_comes 11 = .ok (.getfield 39, 3) := dk_180 0 39 (dk_at dksX3_comes_0 11 rfl rfl)
theorem dX3_comes_14 : decode cX3_comes 14 = .ok (.aload_n 0, 1) := dk_42 (dk_at dksX3_comes_0 14 rfl rfl)
theorem dX3_comes_15 : decode cX3_comes 15 = .ok (.getfield 158, 3) := dk_180 0 158 (dk_at dksX3_comes_0 15 rfl rfl)
theorem dX3_comes_18 : decode cX3_comes 18 = .ok (.iload_n 1, 1) := dk_27 (dk_at dksX3_comes_0 18 rfl rfl)
theorem dX3_comes_19 : decode cX3_comes 19 = .ok (.iastore, 1) := dk_79 (dk_at dksX3_comes_0 19 rfl rfl)
theorem dX3_comes_20 : decode cX3_comes 20 = .ok (.aload_n 0, 1) := dk_42 (dk_at dksX3_comes_0 20 rfl rfl)
theorem dX3_comes_21 : decode cX3_comes 21 = .ok (.dup, 1) := dk_89 (dk_at dksX3_comes_0 21 rfl rfl)
theorem dX3_comes_22 : decode cX3_comes 22 = .ok (.getfield 158, 3) := dk_180 0 158 (dk_at dksX3_comes_1 0 rfl rfl)
theorem dX3_comes_25 : decode cX3_comes 25 = .ok (.iconst 1, 1) := dk_4 (dk_at dksX3_comes_1 3 rfl rfl)
theorem dX3_comes_26 : decode cX3_comes 26 = .ok (.iadd, 1) := dk_96 (dk_at dksX3_comes_1 4 rfl rfl)
theorem dX3_comes_27 : decode cX3_comes 27 = .ok (.putfield 158, 3) := dk_181 0 158 (dk_at dksX3_comes_1 5 rfl rfl)
theorem dX3_comes_30 : decode cX3_comes 30 = .ok (.return_, 1) := dk_177 (dk_at dksX3_comes_1 8 rfl rfl)
abbrev cX3_repeats : ByteArray := prog_22_method_20_code
def yX3_repeats : MethodName := ⟨RX3, "repeats", "(I)V"⟩
def dkwX3_repeats_3 : List UInt8 := [96, 181, 0, 152, 177]
abbrev dktX3_repeats_3 : List UInt8 := dkwX3_repeats_3 ++ []
def dkwX3_repeats_2 : List UInt8 := [21, 4, 46, 182, 0, 165, 132, 4, 1, 167, 255, 236, 132, 3, 1, 167, 255, 216, 42, 89, 180, 0, 152, 4]
abbrev dktX3_repeats_2 : List UInt8 := dkwX3_repeats_2 ++ dktX3_repeats_3
def dkwX3_repeats_1 : List UInt8 := [182, 0, 161, 16, 48, 100, 162, 0, 35, 27, 54, 4, 21, 4, 28, 162, 0, 20, 42, 42, 180, 0, 39]
abbrev dktX3_repeats_1 : List UInt8 := dkwX3_repeats_1 ++ dktX3_repeats_2
def dkwX3_repeats_0 : List UInt8 := [42, 182, 0, 161, 16, 50, 16, 57, 184, 0, 119, 153, 0, 63, 42, 180, 0, 158, 61, 4, 62, 29, 42]
abbrev dktX3_repeats_0 : List UInt8 := dkwX3_repeats_0 ++ dktX3_repeats_1
theorem dksX3_repeats_0 : cX3_repeats.data.toList.drop 0 = dktX3_repeats_0 := by decide +kernel
theorem dksX3_repeats_1 : cX3_repeats.data.toList.drop 23 = dktX3_repeats_1 := dk_seg dksX3_repeats_0 23 rfl rfl
theorem dksX3_repeats_2 : cX3_repeats.data.toList.drop 46 = dktX3_repeats_2 := dk_seg dksX3_repeats_1 23 rfl rfl
theorem dksX3_repeats_3 : cX3_repeats.data.toList.drop 70 = dktX3_repeats_3 := dk_seg dksX3_repeats_2 24 rfl rfl
theorem dX3_repeats_0 : decode cX3_repeats 0 = .ok (.aload_n 0, 1) := dk_42 (dk_at dksX3_repeats_0 0 rfl rfl)
theorem dX3_repeats_1 : decode cX3_repeats 1 = .ok (.invokevirtual 161, 3) := dk_182 0 161 (dk_at dksX3_repeats_0 1 rfl rfl)
theorem dX3_repeats_4 : decode cX3_repeats 4 = .ok (.bipush 50, 2) := dk_16 50 (dk_at dksX3_repeats_0 4 rfl rfl)
theorem dX3_repeats_6 : decode cX3_repeats 6 = .ok (.bipush 57, 2) := dk_16 57 (dk_at dksX3_repeats_0 6 rfl rfl)
theorem dX3_repeats_8 : decode cX3_repeats 8 = .ok (.invokestatic 119, 3) := dk_184 0 119 (dk_at dksX3_repeats_0 8 rfl rfl)
theorem dX3_repeats_11 : decode cX3_repeats 11 = .ok (.ifCond .eq 63, 3) := dk_153 0 63 (dk_at dksX3_repeats_0 11 rfl rfl)
theorem dX3_repeats_14 : decode cX3_repeats 14 = .ok (.aload_n 0, 1) := dk_42 (dk_at dksX3_repeats_0 14 rfl rfl)
theorem dX3_repeats_15 : decode cX3_repeats 15 = .ok (.getfield 158, 3) := dk_180 0 158 (dk_at dksX3_repeats_0 15 rfl rfl)
theorem dX3_repeats_18 : decode cX3_repeats 18 = .ok (.istore_n 2, 1) := dk_61 (dk_at dksX3_repeats_0 18 rfl rfl)
theorem dX3_repeats_19 : decode cX3_repeats 19 = .ok (.iconst 1, 1) := dk_4 (dk_at dksX3_repeats_0 19 rfl rfl)
theorem dX3_repeats_20 : decode cX3_repeats 20 = .ok (.istore_n 3, 1) := dk_62 (dk_at dksX3_repeats_0 20 rfl rfl)
theorem dX3_repeats_21 : decode cX3_repeats 21 = .ok (.iload_n 3, 1) := dk_29 (dk_at dksX3_repeats_0 21 rfl rfl)
theorem dX3_repeats_22 : decode cX3_repeats 22 = .ok (.aload_n 0, 1) := dk_42 (dk_at dksX3_repeats_0 22 rfl rfl)
theorem dX3_repeats_23 : decode cX3_repeats 23 = .ok (.invokevirtual 161, 3) := dk_182 0 161 (dk_at dksX3_repeats_1 0 rfl rfl)
theorem dX3_repeats_26 : decode cX3_repeats 26 = .ok (.bipush 48, 2) := dk_16 48 (dk_at dksX3_repeats_1 3 rfl rfl)
theorem dX3_repeats_28 : decode cX3_repeats 28 = .ok (.isub, 1) := dk_100 (dk_at dksX3_repeats_1 5 rfl rfl)
theorem dX3_repeats_29 : decode cX3_repeats 29 = .ok (.if_icmp .ge 35, 3) := dk_162 0 35 (dk_at dksX3_repeats_1 6 rfl rfl)
theorem dX3_repeats_32 : decode cX3_repeats 32 = .ok (.iload_n 1, 1) := dk_27 (dk_at dksX3_repeats_1 9 rfl rfl)
theorem dX3_repeats_33 : decode cX3_repeats 33 = .ok (.istore 4, 2) := dk_54 4 (dk_at dksX3_repeats_1 10 rfl rfl)
theorem dX3_repeats_35 : decode cX3_repeats 35 = .ok (.iload 4, 2) := dk_21 4 (dk_at dksX3_repeats_1 12 rfl rfl)
theorem dX3_repeats_37 : decode cX3_repeats 37 = .ok (.iload_n 2, 1) := dk_28 (dk_at dksX3_repeats_1 14 rfl rfl)
theorem dX3_repeats_38 : decode cX3_repeats 38 = .ok (.if_icmp .ge 20, 3) := dk_162 0 20 (dk_at dksX3_repeats_1 15 rfl rfl)
theorem dX3_repeats_41 : decode cX3_repeats 41 = .ok (.aload_n 0, 1) := dk_42 (dk_at dksX3_repeats_1 18 rfl rfl)
theorem dX3_repeats_42 : decode cX3_repeats 42 = .ok (.aload_n 0, 1) := dk_42 (dk_at dksX3_repeats_1 19 rfl rfl)
theorem dX3_repeats_43 : decode cX3_repeats 43 = .ok (.getfield 39, 3) := dk_180 0 39 (dk_at dksX3_repeats_1 20 rfl rfl)
theorem dX3_repeats_46 : decode cX3_repeats 46 = .ok (.iload 4, 2) := dk_21 4 (dk_at dksX3_repeats_2 0 rfl rfl)
theorem dX3_repeats_48 : decode cX3_repeats 48 = .ok (.iaload, 1) := dk_46 (dk_at dksX3_repeats_2 2 rfl rfl)
theorem dX3_repeats_49 : decode cX3_repeats 49 = .ok (.invokevirtual 165, 3) := dk_182 0 165 (dk_at dksX3_repeats_2 3 rfl rfl)
theorem dX3_repeats_52 : decode cX3_repeats 52 = .ok (.iinc 4 1, 3) := dk_132 4 1 (dk_at dksX3_repeats_2 6 rfl rfl)
theorem dX3_repeats_55 : decode cX3_repeats 55 = .ok (.goto (-20), 3) := dk_167 255 236 (dk_at dksX3_repeats_2 9 rfl rfl)
theorem dX3_repeats_58 : decode cX3_repeats 58 = .ok (.iinc 3 1, 3) := dk_132 3 1 (dk_at dksX3_repeats_2 12 rfl rfl)
theorem dX3_repeats_61 : decode cX3_repeats 61 = .ok (.goto (-40), 3) := dk_167 255 216 (dk_at dksX3_repeats_2 15 rfl rfl)
theorem dX3_repeats_64 : decode cX3_repeats 64 = .ok (.aload_n 0, 1) := dk_42 (dk_at dksX3_repeats_2 18 rfl rfl)
theorem dX3_repeats_65 : decode cX3_repeats 65 = .ok (.dup, 1) := dk_89 (dk_at dksX3_repeats_2 19 rfl rfl)
theorem dX3_repeats_66 : decode cX3_repeats 66 = .ok (.getfield 152, 3) := dk_180 0 152 (dk_at dksX3_repeats_2 20 rfl rfl)
theorem dX3_repeats_69 : decode cX3_repeats 69 = .ok (.iconst 1, 1) := dk_4 (dk_at dksX3_repeats_2 23 rfl rfl)
theorem dX3_repeats_70 : decode cX3_repeats 70 = .ok (.iadd, 1) := dk_96 (dk_at dksX3_repeats_3 0 rfl rfl)
theorem dX3_repeats_71 : decode cX3_repeats 71 = .ok (.putfield 152, 3) := dk_181 0 152 (dk_at dksX3_repeats_3 1 rfl rfl)
theorem dX3_repeats_74 : decode cX3_repeats 74 = .ok (.return_, 1) := dk_177 (dk_at dksX3_repeats_3 4 rfl rfl)
abbrev cX3_distance : ByteArray := prog_22_method_32_code
def yX3_distance : MethodName := ⟨RX3, "distance", "(II)I"⟩
def dkwX3_distance_3 : List UInt8 := [100, 182, 0, 138, 172]
abbrev dktX3_distance_3 : List UInt8 := dkwX3_distance_3 ++ []
def dkwX3_distance_2 : List UInt8 := [180, 0, 54, 3, 29, 3, 21, 4, 182, 0, 185, 42, 29, 21, 4, 96, 5, 42, 3, 3, 182, 0, 178, 104]
abbrev dktX3_distance_2 : List UInt8 := dkwX3_distance_2 ++ dktX3_distance_3
def dkwX3_distance_1 : List UInt8 := [180, 0, 51, 182, 0, 207, 62, 42, 28, 42, 180, 0, 54, 182, 0, 207, 54, 4, 42, 42, 180, 0, 51, 42]
abbrev dktX3_distance_1 : List UInt8 := dkwX3_distance_1 ++ dktX3_distance_2
def dkwX3_distance_0 : List UInt8 := [27, 184, 0, 126, 153, 0, 10, 28, 184, 0, 126, 154, 0, 9, 42, 4, 182, 0, 130, 172, 42, 27, 42]
abbrev dktX3_distance_0 : List UInt8 := dkwX3_distance_0 ++ dktX3_distance_1
theorem dksX3_distance_0 : cX3_distance.data.toList.drop 0 = dktX3_distance_0 := by decide +kernel
theorem dksX3_distance_1 : cX3_distance.data.toList.drop 23 = dktX3_distance_1 := dk_seg dksX3_distance_0 23 rfl rfl
theorem dksX3_distance_2 : cX3_distance.data.toList.drop 47 = dktX3_distance_2 := dk_seg dksX3_distance_1 24 rfl rfl
theorem dksX3_distance_3 : cX3_distance.data.toList.drop 71 = dktX3_distance_3 := dk_seg dksX3_distance_2 24 rfl rfl
theorem dX3_distance_0 : decode cX3_distance 0 = .ok (.iload_n 1, 1) := dk_27 (dk_at dksX3_distance_0 0 rfl rfl)
theorem dX3_distance_1 : decode cX3_distance 1 = .ok (.invokestatic 126, 3) := dk_184 0 126 (dk_at dksX3_distance_0 1 rfl rfl)
theorem dX3_distance_4 : decode cX3_distance 4 = .ok (.ifCond .eq 10, 3) := dk_153 0 10 (dk_at dksX3_distance_0 4 rfl rfl)
theorem dX3_distance_7 : decode cX3_distance 7 = .ok (.iload_n 2, 1) := dk_28 (dk_at dksX3_distance_0 7 rfl rfl)
theorem dX3_distance_8 : decode cX3_distance 8 = .ok (.invokestatic 126, 3) := dk_184 0 126 (dk_at dksX3_distance_0 8 rfl rfl)
theorem dX3_distance_11 : decode cX3_distance 11 = .ok (.ifCond .ne 9, 3) := dk_154 0 9 (dk_at dksX3_distance_0 11 rfl rfl)
theorem dX3_distance_14 : decode cX3_distance 14 = .ok (.aload_n 0, 1) := dk_42 (dk_at dksX3_distance_0 14 rfl rfl)
theorem dX3_distance_15 : decode cX3_distance 15 = .ok (.iconst 1, 1) := dk_4 (dk_at dksX3_distance_0 15 rfl rfl)
theorem dX3_distance_16 : decode cX3_distance 16 = .ok (.invokevirtual 130, 3) := dk_182 0 130 (dk_at dksX3_distance_0 16 rfl rfl)
theorem dX3_distance_19 : decode cX3_distance 19 = .ok (.ireturn, 1) := dk_172 (dk_at dksX3_distance_0 19 rfl rfl)
theorem dX3_distance_20 : decode cX3_distance 20 = .ok (.aload_n 0, 1) := dk_42 (dk_at dksX3_distance_0 20 rfl rfl)
theorem dX3_distance_21 : decode cX3_distance 21 = .ok (.iload_n 1, 1) := dk_27 (dk_at dksX3_distance_0 21 rfl rfl)
theorem dX3_distance_22 : decode cX3_distance 22 = .ok (.aload_n 0, 1) := dk_42 (dk_at dksX3_distance_0 22 rfl rfl)
theorem dX3_distance_23 : decode cX3_distance 23 = .ok (.getfield 51, 3) := dk_180 0 51 (dk_at dksX3_distance_1 0 rfl rfl)
theorem dX3_distance_26 : decode cX3_distance 26 = .ok (.invokevirtual 207, 3) := dk_182 0 207 (dk_at dksX3_distance_1 3 rfl rfl)
theorem dX3_distance_29 : decode cX3_distance 29 = .ok (.istore_n 3, 1) := dk_62 (dk_at dksX3_distance_1 6 rfl rfl)
theorem dX3_distance_30 : decode cX3_distance 30 = .ok (.aload_n 0, 1) := dk_42 (dk_at dksX3_distance_1 7 rfl rfl)
theorem dX3_distance_31 : decode cX3_distance 31 = .ok (.iload_n 2, 1) := dk_28 (dk_at dksX3_distance_1 8 rfl rfl)
theorem dX3_distance_32 : decode cX3_distance 32 = .ok (.aload_n 0, 1) := dk_42 (dk_at dksX3_distance_1 9 rfl rfl)
theorem dX3_distance_33 : decode cX3_distance 33 = .ok (.getfield 54, 3) := dk_180 0 54 (dk_at dksX3_distance_1 10 rfl rfl)
theorem dX3_distance_36 : decode cX3_distance 36 = .ok (.invokevirtual 207, 3) := dk_182 0 207 (dk_at dksX3_distance_1 13 rfl rfl)
theorem dX3_distance_39 : decode cX3_distance 39 = .ok (.istore 4, 2) := dk_54 4 (dk_at dksX3_distance_1 16 rfl rfl)
theorem dX3_distance_41 : decode cX3_distance 41 = .ok (.aload_n 0, 1) := dk_42 (dk_at dksX3_distance_1 18 rfl rfl)
theorem dX3_distance_42 : decode cX3_distance 42 = .ok (.aload_n 0, 1) := dk_42 (dk_at dksX3_distance_1 19 rfl rfl)
theorem dX3_distance_43 : decode cX3_distance 43 = .ok (.getfield 51, 3) := dk_180 0 51 (dk_at dksX3_distance_1 20 rfl rfl)
theorem dX3_distance_46 : decode cX3_distance 46 = .ok (.aload_n 0, 1) := dk_42 (dk_at dksX3_distance_1 23 rfl rfl)
theorem dX3_distance_47 : decode cX3_distance 47 = .ok (.getfield 54, 3) := dk_180 0 54 (dk_at dksX3_distance_2 0 rfl rfl)
theorem dX3_distance_50 : decode cX3_distance 50 = .ok (.iconst 0, 1) := dk_3 (dk_at dksX3_distance_2 3 rfl rfl)
theorem dX3_distance_51 : decode cX3_distance 51 = .ok (.iload_n 3, 1) := dk_29 (dk_at dksX3_distance_2 4 rfl rfl)
theorem dX3_distance_52 : decode cX3_distance 52 = .ok (.iconst 0, 1) := dk_3 (dk_at dksX3_distance_2 5 rfl rfl)
theorem dX3_distance_53 : decode cX3_distance 53 = .ok (.iload 4, 2) := dk_21 4 (dk_at dksX3_distance_2 6 rfl rfl)
theorem dX3_distance_55 : decode cX3_distance 55 = .ok (.invokevirtual 185, 3) := dk_182 0 185 (dk_at dksX3_distance_2 8 rfl rfl)
theorem dX3_distance_58 : decode cX3_distance 58 = .ok (.aload_n 0, 1) := dk_42 (dk_at dksX3_distance_2 11 rfl rfl)
theorem dX3_distance_59 : decode cX3_distance 59 = .ok (.iload_n 3, 1) := dk_29 (dk_at dksX3_distance_2 12 rfl rfl)
theorem dX3_distance_60 : decode cX3_distance 60 = .ok (.iload 4, 2) := dk_21 4 (dk_at dksX3_distance_2 13 rfl rfl)
theorem dX3_distance_62 : decode cX3_distance 62 = .ok (.iadd, 1) := dk_96 (dk_at dksX3_distance_2 15 rfl rfl)
theorem dX3_distance_63 : decode cX3_distance 63 = .ok (.iconst 2, 1) := dk_5 (dk_at dksX3_distance_2 16 rfl rfl)
theorem dX3_distance_64 : decode cX3_distance 64 = .ok (.aload_n 0, 1) := dk_42 (dk_at dksX3_distance_2 17 rfl rfl)
theorem dX3_distance_65 : decode cX3_distance 65 = .ok (.iconst 0, 1) := dk_3 (dk_at dksX3_distance_2 18 rfl rfl)
theorem dX3_distance_66 : decode cX3_distance 66 = .ok (.iconst 0, 1) := dk_3 (dk_at dksX3_distance_2 19 rfl rfl)
theorem dX3_distance_67 : decode cX3_distance 67 = .ok (.invokevirtual 178, 3) := dk_182 0 178 (dk_at dksX3_distance_2 20 rfl rfl)
theorem dX3_distance_70 : decode cX3_distance 70 = .ok (.imul, 1) := dk_104 (dk_at dksX3_distance_2 23 rfl rfl)
theorem dX3_distance_71 : decode cX3_distance 71 = .ok (.isub, 1) := dk_100 (dk_at dksX3_distance_3 0 rfl rfl)
theorem dX3_distance_72 : decode cX3_distance 72 = .ok (.invokevirtual 138, 3) := dk_182 0 138 (dk_at dksX3_distance_3 1 rfl rfl)
theorem dX3_distance_75 : decode cX3_distance 75 = .ok (.ireturn, 1) := dk_172 (dk_at dksX3_distance_3 4 rfl rfl)
abbrev cX3_takes : ByteArray := prog_22_method_31_code
def yX3_takes : MethodName := ⟨RX3, "takes", "(I[I)I"⟩
def dkwX3_takes_1 : List UInt8 := [46, 79, 132, 3, 1, 167, 255, 229, 42, 180, 0, 13, 27, 46, 172]
abbrev dktX3_takes_1 : List UInt8 := dkwX3_takes_1 ++ []
def dkwX3_takes_0 : List UInt8 := [3, 62, 29, 42, 180, 0, 13, 27, 46, 162, 0, 23, 44, 29, 42, 180, 0, 7, 16, 24, 27, 104, 29, 96]
abbrev dktX3_takes_0 : List UInt8 := dkwX3_takes_0 ++ dktX3_takes_1
theorem dksX3_takes_0 : cX3_takes.data.toList.drop 0 = dktX3_takes_0 := by decide +kernel
theorem dksX3_takes_1 : cX3_takes.data.toList.drop 24 = dktX3_takes_1 := dk_seg dksX3_takes_0 24 rfl rfl
theorem dX3_takes_0 : decode cX3_takes 0 = .ok (.iconst 0, 1) := dk_3 (dk_at dksX3_takes_0 0 rfl rfl)
theorem dX3_takes_1 : decode cX3_takes 1 = .ok (.istore_n 3, 1) := dk_62 (dk_at dksX3_takes_0 1 rfl rfl)
theorem dX3_takes_2 : decode cX3_takes 2 = .ok (.iload_n 3, 1) := dk_29 (dk_at dksX3_takes_0 2 rfl rfl)
theorem dX3_takes_3 : decode cX3_takes 3 = .ok (.aload_n 0, 1) := dk_42 (dk_at dksX3_takes_0 3 rfl rfl)
theorem dX3_takes_4 : decode cX3_takes 4 = .ok (.getfield 13, 3) := dk_180 0 13 (dk_at dksX3_takes_0 4 rfl rfl)
theorem dX3_takes_7 : decode cX3_takes 7 = .ok (.iload_n 1, 1) := dk_27 (dk_at dksX3_takes_0 7 rfl rfl)
theorem dX3_takes_8 : decode cX3_takes 8 = .ok (.iaload, 1) := dk_46 (dk_at dksX3_takes_0 8 rfl rfl)
theorem dX3_takes_9 : decode cX3_takes 9 = .ok (.if_icmp .ge 23, 3) := dk_162 0 23 (dk_at dksX3_takes_0 9 rfl rfl)
theorem dX3_takes_12 : decode cX3_takes 12 = .ok (.aload_n 2, 1) := dk_44 (dk_at dksX3_takes_0 12 rfl rfl)
theorem dX3_takes_13 : decode cX3_takes 13 = .ok (.iload_n 3, 1) := dk_29 (dk_at dksX3_takes_0 13 rfl rfl)
theorem dX3_takes_14 : decode cX3_takes 14 = .ok (.aload_n 0, 1) := dk_42 (dk_at dksX3_takes_0 14 rfl rfl)
theorem dX3_takes_15 : decode cX3_takes 15 = .ok (.getfield 7, 3) := dk_180 0 7 (dk_at dksX3_takes_0 15 rfl rfl)
theorem dX3_takes_18 : decode cX3_takes 18 = .ok (.bipush 24, 2) := dk_16 24 (dk_at dksX3_takes_0 18 rfl rfl)
theorem dX3_takes_20 : decode cX3_takes 20 = .ok (.iload_n 1, 1) := dk_27 (dk_at dksX3_takes_0 20 rfl rfl)
theorem dX3_takes_21 : decode cX3_takes 21 = .ok (.imul, 1) := dk_104 (dk_at dksX3_takes_0 21 rfl rfl)
theorem dX3_takes_22 : decode cX3_takes 22 = .ok (.iload_n 3, 1) := dk_29 (dk_at dksX3_takes_0 22 rfl rfl)
theorem dX3_takes_23 : decode cX3_takes 23 = .ok (.iadd, 1) := dk_96 (dk_at dksX3_takes_0 23 rfl rfl)
theorem dX3_takes_24 : decode cX3_takes 24 = .ok (.iaload, 1) := dk_46 (dk_at dksX3_takes_1 0 rfl rfl)
theorem dX3_takes_25 : decode cX3_takes 25 = .ok (.iastore, 1) := dk_79 (dk_at dksX3_takes_1 1 rfl rfl)
theorem dX3_takes_26 : decode cX3_takes 26 = .ok (.iinc 3 1, 3) := dk_132 3 1 (dk_at dksX3_takes_1 2 rfl rfl)
theorem dX3_takes_29 : decode cX3_takes 29 = .ok (.goto (-27), 3) := dk_167 255 229 (dk_at dksX3_takes_1 5 rfl rfl)
theorem dX3_takes_32 : decode cX3_takes 32 = .ok (.aload_n 0, 1) := dk_42 (dk_at dksX3_takes_1 8 rfl rfl)
theorem dX3_takes_33 : decode cX3_takes 33 = .ok (.getfield 13, 3) := dk_180 0 13 (dk_at dksX3_takes_1 9 rfl rfl)
theorem dX3_takes_36 : decode cX3_takes 36 = .ok (.iload_n 1, 1) := dk_27 (dk_at dksX3_takes_1 12 rfl rfl)
theorem dX3_takes_37 : decode cX3_takes 37 = .ok (.iaload, 1) := dk_46 (dk_at dksX3_takes_1 13 rfl rfl)
theorem dX3_takes_38 : decode cX3_takes 38 = .ok (.ireturn, 1) := dk_172 (dk_at dksX3_takes_1 14 rfl rfl)
abbrev cX3_measures : ByteArray := prog_22_method_26_code
def yX3_measures : MethodName := ⟨RX3, "measures", "([I[IIIII)V"⟩
def dkwX3_measures_5 : List UInt8 := [21, 7, 104, 21, 8, 96, 21, 9, 79, 132, 8, 255, 167, 255, 142, 132, 7, 255, 167, 255, 126, 177]
abbrev dktX3_measures_5 : List UInt8 := dkwX3_measures_5 ++ []
def dkwX3_measures_4 : List UInt8 := [42, 21, 7, 4, 96, 21, 8, 4, 96, 182, 0, 178, 96, 184, 0, 182, 54, 9, 42, 180, 0, 42, 16, 25]
abbrev dktX3_measures_4 : List UInt8 := dkwX3_measures_4 ++ dktX3_measures_5
def dkwX3_measures_3 : List UInt8 := [162, 0, 42, 21, 8, 21, 6, 162, 0, 35, 43, 21, 7, 46, 44, 21, 8, 46, 160, 0, 24, 21, 9, 4]
abbrev dktX3_measures_3 : List UInt8 := dkwX3_measures_3 ++ dktX3_measures_4
def dkwX3_measures_2 : List UInt8 := [21, 7, 21, 8, 4, 96, 182, 0, 178, 184, 0, 182, 167, 0, 4, 3, 54, 9, 21, 7, 21, 4]
abbrev dktX3_measures_2 : List UInt8 := dkwX3_measures_2 ++ dktX3_measures_3
def dkwX3_measures_1 : List UInt8 := [21, 4, 162, 0, 36, 21, 8, 21, 6, 162, 0, 29, 42, 21, 7, 4, 96, 21, 8, 182, 0, 178, 42]
abbrev dktX3_measures_1 : List UInt8 := dkwX3_measures_1 ++ dktX3_measures_2
def dkwX3_measures_0 : List UInt8 := [21, 4, 54, 7, 21, 7, 29, 161, 0, 130, 21, 6, 54, 8, 21, 8, 21, 5, 161, 0, 113, 21, 7]
abbrev dktX3_measures_0 : List UInt8 := dkwX3_measures_0 ++ dktX3_measures_1
theorem dksX3_measures_0 : cX3_measures.data.toList.drop 0 = dktX3_measures_0 := by decide +kernel
theorem dksX3_measures_1 : cX3_measures.data.toList.drop 23 = dktX3_measures_1 := dk_seg dksX3_measures_0 23 rfl rfl
theorem dksX3_measures_2 : cX3_measures.data.toList.drop 46 = dktX3_measures_2 := dk_seg dksX3_measures_1 23 rfl rfl
theorem dksX3_measures_3 : cX3_measures.data.toList.drop 68 = dktX3_measures_3 := dk_seg dksX3_measures_2 22 rfl rfl
theorem dksX3_measures_4 : cX3_measures.data.toList.drop 92 = dktX3_measures_4 := dk_seg dksX3_measures_3 24 rfl rfl
theorem dksX3_measures_5 : cX3_measures.data.toList.drop 116 = dktX3_measures_5 := dk_seg dksX3_measures_4 24 rfl rfl
theorem dX3_measures_0 : decode cX3_measures 0 = .ok (.iload 4, 2) := dk_21 4 (dk_at dksX3_measures_0 0 rfl rfl)
theorem dX3_measures_2 : decode cX3_measures 2 = .ok (.istore 7, 2) := dk_54 7 (dk_at dksX3_measures_0 2 rfl rfl)
theorem dX3_measures_4 : decode cX3_measures 4 = .ok (.iload 7, 2) := dk_21 7 (dk_at dksX3_measures_0 4 rfl rfl)
theorem dX3_measures_6 : decode cX3_measures 6 = .ok (.iload_n 3, 1) := dk_29 (dk_at dksX3_measures_0 6 rfl rfl)
theorem dX3_measures_7 : decode cX3_measures 7 = .ok (.if_icmp .lt 130, 3) := dk_161 0 130 (dk_at dksX3_measures_0 7 rfl rfl)
theorem dX3_measures_10 : decode cX3_measures 10 = .ok (.iload 6, 2) := dk_21 6 (dk_at dksX3_measures_0 10 rfl rfl)
theorem dX3_measures_12 : decode cX3_measures 12 = .ok (.istore 8, 2) := dk_54 8 (dk_at dksX3_measures_0 12 rfl rfl)
theorem dX3_measures_14 : decode cX3_measures 14 = .ok (.iload 8, 2) := dk_21 8 (dk_at dksX3_measures_0 14 rfl rfl)
theorem dX3_measures_16 : decode cX3_measures 16 = .ok (.iload 5, 2) := dk_21 5 (dk_at dksX3_measures_0 16 rfl rfl)
theorem dX3_measures_18 : decode cX3_measures 18 = .ok (.if_icmp .lt 113, 3) := dk_161 0 113 (dk_at dksX3_measures_0 18 rfl rfl)
theorem dX3_measures_21 : decode cX3_measures 21 = .ok (.iload 7, 2) := dk_21 7 (dk_at dksX3_measures_0 21 rfl rfl)
theorem dX3_measures_23 : decode cX3_measures 23 = .ok (.iload 4, 2) := dk_21 4 (dk_at dksX3_measures_1 0 rfl rfl)
theorem dX3_measures_25 : decode cX3_measures 25 = .ok (.if_icmp .ge 36, 3) := dk_162 0 36 (dk_at dksX3_measures_1 2 rfl rfl)
theorem dX3_measures_28 : decode cX3_measures 28 = .ok (.iload 8, 2) := dk_21 8 (dk_at dksX3_measures_1 5 rfl rfl)
theorem dX3_measures_30 : decode cX3_measures 30 = .ok (.iload 6, 2) := dk_21 6 (dk_at dksX3_measures_1 7 rfl rfl)
theorem dX3_measures_32 : decode cX3_measures 32 = .ok (.if_icmp .ge 29, 3) := dk_162 0 29 (dk_at dksX3_measures_1 9 rfl rfl)
theorem dX3_measures_35 : decode cX3_measures 35 = .ok (.aload_n 0, 1) := dk_42 (dk_at dksX3_measures_1 12 rfl rfl)
theorem dX3_measures_36 : decode cX3_measures 36 = .ok (.iload 7, 2) := dk_21 7 (dk_at dksX3_measures_1 13 rfl rfl)
theorem dX3_measures_38 : decode cX3_measures 38 = .ok (.iconst 1, 1) := dk_4 (dk_at dksX3_measures_1 15 rfl rfl)
theorem dX3_measures_39 : decode cX3_measures 39 = .ok (.iadd, 1) := dk_96 (dk_at dksX3_measures_1 16 rfl rfl)
theorem dX3_measures_40 : decode cX3_measures 40 = .ok (.iload 8, 2) := dk_21 8 (dk_at dksX3_measures_1 17 rfl rfl)
theorem dX3_measures_42 : decode cX3_measures 42 = .ok (.invokevirtual 178, 3) := dk_182 0 178 (dk_at dksX3_measures_1 19 rfl rfl)
theorem dX3_measures_45 : decode cX3_measures 45 = .ok (.aload_n 0, 1) := dk_42 (dk_at dksX3_measures_1 22 rfl rfl)
theorem dX3_measures_46 : decode cX3_measures 46 = .ok (.iload 7, 2) := dk_21 7 (dk_at dksX3_measures_2 0 rfl rfl)
theorem dX3_measures_48 : decode cX3_measures 48 = .ok (.iload 8, 2) := dk_21 8 (dk_at dksX3_measures_2 2 rfl rfl)
theorem dX3_measures_50 : decode cX3_measures 50 = .ok (.iconst 1, 1) := dk_4 (dk_at dksX3_measures_2 4 rfl rfl)
theorem dX3_measures_51 : decode cX3_measures 51 = .ok (.iadd, 1) := dk_96 (dk_at dksX3_measures_2 5 rfl rfl)
theorem dX3_measures_52 : decode cX3_measures 52 = .ok (.invokevirtual 178, 3) := dk_182 0 178 (dk_at dksX3_measures_2 6 rfl rfl)
theorem dX3_measures_55 : decode cX3_measures 55 = .ok (.invokestatic 182, 3) := dk_184 0 182 (dk_at dksX3_measures_2 9 rfl rfl)
theorem dX3_measures_58 : decode cX3_measures 58 = .ok (.goto 4, 3) := dk_167 0 4 (dk_at dksX3_measures_2 12 rfl rfl)
theorem dX3_measures_61 : decode cX3_measures 61 = .ok (.iconst 0, 1) := dk_3 (dk_at dksX3_measures_2 15 rfl rfl)
theorem dX3_measures_62 : decode cX3_measures 62 = .ok (.istore 9, 2) := dk_54 9 (dk_at dksX3_measures_2 16 rfl rfl)
theorem dX3_measures_64 : decode cX3_measures 64 = .ok (.iload 7, 2) := dk_21 7 (dk_at dksX3_measures_2 18 rfl rfl)
theorem dX3_measures_66 : decode cX3_measures 66 = .ok (.iload 4, 2) := dk_21 4 (dk_at dksX3_measures_2 20 rfl rfl)
theorem dX3_measures_68 : decode cX3_measures 68 = .ok (.if_icmp .ge 42, 3) := dk_162 0 42 (dk_at dksX3_measures_3 0 rfl rfl)
theorem dX3_measures_71 : decode cX3_measures 71 = .ok (.iload 8, 2) := dk_21 8 (dk_at dksX3_measures_3 3 rfl rfl)
theorem dX3_measures_73 : decode cX3_measures 73 = .ok (.iload 6, 2) := dk_21 6 (dk_at dksX3_measures_3 5 rfl rfl)
theorem dX3_measures_75 : decode cX3_measures 75 = .ok (.if_icmp .ge 35, 3) := dk_162 0 35 (dk_at dksX3_measures_3 7 rfl rfl)
theorem dX3_measures_78 : decode cX3_measures 78 = .ok (.aload_n 1, 1) := dk_43 (dk_at dksX3_measures_3 10 rfl rfl)
theorem dX3_measures_79 : decode cX3_measures 79 = .ok (.iload 7, 2) := dk_21 7 (dk_at dksX3_measures_3 11 rfl rfl)
theorem dX3_measures_81 : decode cX3_measures 81 = .ok (.iaload, 1) := dk_46 (dk_at dksX3_measures_3 13 rfl rfl)
theorem dX3_measures_82 : decode cX3_measures 82 = .ok (.aload_n 2, 1) := dk_44 (dk_at dksX3_measures_3 14 rfl rfl)
theorem dX3_measures_83 : decode cX3_measures 83 = .ok (.iload 8, 2) := dk_21 8 (dk_at dksX3_measures_3 15 rfl rfl)
theorem dX3_measures_85 : decode cX3_measures 85 = .ok (.iaload, 1) := dk_46 (dk_at dksX3_measures_3 17 rfl rfl)
theorem dX3_measures_86 : decode cX3_measures 86 = .ok (.if_icmp .ne 24, 3) := dk_160 0 24 (dk_at dksX3_measures_3 18 rfl rfl)
theorem dX3_measures_89 : decode cX3_measures 89 = .ok (.iload 9, 2) := dk_21 9 (dk_at dksX3_measures_3 21 rfl rfl)
theorem dX3_measures_91 : decode cX3_measures 91 = .ok (.iconst 1, 1) := dk_4 (dk_at dksX3_measures_3 23 rfl rfl)
theorem dX3_measures_92 : decode cX3_measures 92 = .ok (.aload_n 0, 1) := dk_42 (dk_at dksX3_measures_4 0 rfl rfl)
theorem dX3_measures_93 : decode cX3_measures 93 = .ok (.iload 7, 2) := dk_21 7 (dk_at dksX3_measures_4 1 rfl rfl)
theorem dX3_measures_95 : decode cX3_measures 95 = .ok (.iconst 1, 1) := dk_4 (dk_at dksX3_measures_4 3 rfl rfl)
theorem dX3_measures_96 : decode cX3_measures 96 = .ok (.iadd, 1) := dk_96 (dk_at dksX3_measures_4 4 rfl rfl)
theorem dX3_measures_97 : decode cX3_measures 97 = .ok (.iload 8, 2) := dk_21 8 (dk_at dksX3_measures_4 5 rfl rfl)
theorem dX3_measures_99 : decode cX3_measures 99 = .ok (.iconst 1, 1) := dk_4 (dk_at dksX3_measures_4 7 rfl rfl)
theorem dX3_measures_100 : decode cX3_measures 100 = .ok (.iadd, 1) := dk_96 (dk_at dksX3_measures_4 8 rfl rfl)
theorem dX3_measures_101 : decode cX3_measures 101 = .ok (.invokevirtual 178, 3) := dk_182 0 178 (dk_at dksX3_measures_4 9 rfl rfl)
theorem dX3_measures_104 : decode cX3_measures 104 = .ok (.iadd, 1) := dk_96 (dk_at dksX3_measures_4 12 rfl rfl)
theorem dX3_measures_105 : decode cX3_measures 105 = .ok (.invokestatic 182, 3) := dk_184 0 182 (dk_at dksX3_measures_4 13 rfl rfl)
theorem dX3_measures_108 : decode cX3_measures 108 = .ok (.istore 9, 2) := dk_54 9 (dk_at dksX3_measures_4 16 rfl rfl)
theorem dX3_measures_110 : decode cX3_measures 110 = .ok (.aload_n 0, 1) := dk_42 (dk_at dksX3_measures_4 18 rfl rfl)
theorem dX3_measures_111 : decode cX3_measures 111 = .ok (.getfield 42, 3) := dk_180 0 42 (dk_at dksX3_measures_4 19 rfl rfl)
theorem dX3_measures_114 : decode cX3_measures 114 = .ok (.bipush 25, 2) := dk_16 25 (dk_at dksX3_measures_4 22 rfl rfl)
theorem dX3_measures_116 : decode cX3_measures 116 = .ok (.iload 7, 2) := dk_21 7 (dk_at dksX3_measures_5 0 rfl rfl)
theorem dX3_measures_118 : decode cX3_measures 118 = .ok (.imul, 1) := dk_104 (dk_at dksX3_measures_5 2 rfl rfl)
theorem dX3_measures_119 : decode cX3_measures 119 = .ok (.iload 8, 2) := dk_21 8 (dk_at dksX3_measures_5 3 rfl rfl)
theorem dX3_measures_121 : decode cX3_measures 121 = .ok (.iadd, 1) := dk_96 (dk_at dksX3_measures_5 5 rfl rfl)
theorem dX3_measures_122 : decode cX3_measures 122 = .ok (.iload 9, 2) := dk_21 9 (dk_at dksX3_measures_5 6 rfl rfl)
theorem dX3_measures_124 : decode cX3_measures 124 = .ok (.iastore, 1) := dk_79 (dk_at dksX3_measures_5 8 rfl rfl)
theorem dX3_measures_125 : decode cX3_measures 125 = .ok (.iinc 8 (-1), 3) := dk_132 8 255 (dk_at dksX3_measures_5 9 rfl rfl)
theorem dX3_measures_128 : decode cX3_measures 128 = .ok (.goto (-114), 3) := dk_167 255 142 (dk_at dksX3_measures_5 12 rfl rfl)
theorem dX3_measures_131 : decode cX3_measures 131 = .ok (.iinc 7 (-1), 3) := dk_132 7 255 (dk_at dksX3_measures_5 15 rfl rfl)
theorem dX3_measures_134 : decode cX3_measures 134 = .ok (.goto (-130), 3) := dk_167 255 126 (dk_at dksX3_measures_5 18 rfl rfl)
theorem dX3_measures_137 : decode cX3_measures 137 = .ok (.return_, 1) := dk_177 (dk_at dksX3_measures_5 21 rfl rfl)
abbrev cX3_longestOf : ByteArray := prog_22_method_25_code
def yX3_longestOf : MethodName := ⟨RX3, "longestOf", "(II)I"⟩
def dkwX3_longestOf_0 : List UInt8 := [42, 180, 0, 42, 16, 25, 27, 104, 28, 96, 46, 172]
abbrev dktX3_longestOf_0 : List UInt8 := dkwX3_longestOf_0 ++ []
theorem dksX3_longestOf_0 : cX3_longestOf.data.toList.drop 0 = dktX3_longestOf_0 := by decide +kernel
theorem dX3_longestOf_0 : decode cX3_longestOf 0 = .ok (.aload_n 0, 1) := dk_42 (dk_at dksX3_longestOf_0 0 rfl rfl)
theorem dX3_longestOf_1 : decode cX3_longestOf 1 = .ok (.getfield 42, 3) := dk_180 0 42 (dk_at dksX3_longestOf_0 1 rfl rfl)
theorem dX3_longestOf_4 : decode cX3_longestOf 4 = .ok (.bipush 25, 2) := dk_16 25 (dk_at dksX3_longestOf_0 4 rfl rfl)
theorem dX3_longestOf_6 : decode cX3_longestOf 6 = .ok (.iload_n 1, 1) := dk_27 (dk_at dksX3_longestOf_0 6 rfl rfl)
theorem dX3_longestOf_7 : decode cX3_longestOf 7 = .ok (.imul, 1) := dk_104 (dk_at dksX3_longestOf_0 7 rfl rfl)
theorem dX3_longestOf_8 : decode cX3_longestOf 8 = .ok (.iload_n 2, 1) := dk_28 (dk_at dksX3_longestOf_0 8 rfl rfl)
theorem dX3_longestOf_9 : decode cX3_longestOf 9 = .ok (.iadd, 1) := dk_96 (dk_at dksX3_longestOf_0 9 rfl rfl)
theorem dX3_longestOf_10 : decode cX3_longestOf 10 = .ok (.iaload, 1) := dk_46 (dk_at dksX3_longestOf_0 10 rfl rfl)
theorem dX3_longestOf_11 : decode cX3_longestOf 11 = .ok (.ireturn, 1) := dk_172 (dk_at dksX3_longestOf_0 11 rfl rfl)
abbrev cX3_most : ByteArray := prog_22_method_24_code
def yX3_most : MethodName := ⟨RX3, "most", "(II)I"⟩
def dkwX3_most_0 : List UInt8 := [26, 27, 164, 0, 7, 26, 167, 0, 4, 27, 172]
abbrev dktX3_most_0 : List UInt8 := dkwX3_most_0 ++ []
theorem dksX3_most_0 : cX3_most.data.toList.drop 0 = dktX3_most_0 := by decide +kernel
theorem dX3_most_0 : decode cX3_most 0 = .ok (.iload_n 0, 1) := dk_26 (dk_at dksX3_most_0 0 rfl rfl)
theorem dX3_most_1 : decode cX3_most 1 = .ok (.iload_n 1, 1) := dk_27 (dk_at dksX3_most_0 1 rfl rfl)
theorem dX3_most_2 : decode cX3_most 2 = .ok (.if_icmp .le 7, 3) := dk_164 0 7 (dk_at dksX3_most_0 2 rfl rfl)
theorem dX3_most_5 : decode cX3_most 5 = .ok (.iload_n 0, 1) := dk_26 (dk_at dksX3_most_0 5 rfl rfl)
theorem dX3_most_6 : decode cX3_most 6 = .ok (.goto 4, 3) := dk_167 0 4 (dk_at dksX3_most_0 6 rfl rfl)
theorem dX3_most_9 : decode cX3_most 9 = .ok (.iload_n 1, 1) := dk_27 (dk_at dksX3_most_0 9 rfl rfl)
theorem dX3_most_10 : decode cX3_most 10 = .ok (.ireturn, 1) := dk_172 (dk_at dksX3_most_0 10 rfl rfl)
abbrev cX3_setMode : ByteArray := prog_22_method_33_code
def yX3_setMode : MethodName := ⟨RX3, "setMode", "(I)I"⟩
def dkwX3_setMode_1 : List UInt8 := [181, 0, 196, 42, 28, 182, 0, 138, 172]
abbrev dktX3_setMode_1 : List UInt8 := dkwX3_setMode_1 ++ []
def dkwX3_setMode_0 : List UInt8 := [27, 3, 4, 184, 0, 119, 154, 0, 9, 42, 4, 182, 0, 130, 172, 42, 180, 0, 196, 61, 42, 27]
abbrev dktX3_setMode_0 : List UInt8 := dkwX3_setMode_0 ++ dktX3_setMode_1
theorem dksX3_setMode_0 : cX3_setMode.data.toList.drop 0 = dktX3_setMode_0 := by decide +kernel
theorem dksX3_setMode_1 : cX3_setMode.data.toList.drop 22 = dktX3_setMode_1 := dk_seg dksX3_setMode_0 22 rfl rfl
theorem dX3_setMode_0 : decode cX3_setMode 0 = .ok (.iload_n 1, 1) := dk_27 (dk_at dksX3_setMode_0 0 rfl rfl)
theorem dX3_setMode_1 : decode cX3_setMode 1 = .ok (.iconst 0, 1) := dk_3 (dk_at dksX3_setMode_0 1 rfl rfl)
theorem dX3_setMode_2 : decode cX3_setMode 2 = .ok (.iconst 1, 1) := dk_4 (dk_at dksX3_setMode_0 2 rfl rfl)
theorem dX3_setMode_3 : decode cX3_setMode 3 = .ok (.invokestatic 119, 3) := dk_184 0 119 (dk_at dksX3_setMode_0 3 rfl rfl)
theorem dX3_setMode_6 : decode cX3_setMode 6 = .ok (.ifCond .ne 9, 3) := dk_154 0 9 (dk_at dksX3_setMode_0 6 rfl rfl)
theorem dX3_setMode_9 : decode cX3_setMode 9 = .ok (.aload_n 0, 1) := dk_42 (dk_at dksX3_setMode_0 9 rfl rfl)
theorem dX3_setMode_10 : decode cX3_setMode 10 = .ok (.iconst 1, 1) := dk_4 (dk_at dksX3_setMode_0 10 rfl rfl)
theorem dX3_setMode_11 : decode cX3_setMode 11 = .ok (.invokevirtual 130, 3) := dk_182 0 130 (dk_at dksX3_setMode_0 11 rfl rfl)
theorem dX3_setMode_14 : decode cX3_setMode 14 = .ok (.ireturn, 1) := dk_172 (dk_at dksX3_setMode_0 14 rfl rfl)
theorem dX3_setMode_15 : decode cX3_setMode 15 = .ok (.aload_n 0, 1) := dk_42 (dk_at dksX3_setMode_0 15 rfl rfl)
theorem dX3_setMode_16 : decode cX3_setMode 16 = .ok (.getfield 196, 3) := dk_180 0 196 (dk_at dksX3_setMode_0 16 rfl rfl)
theorem dX3_setMode_19 : decode cX3_setMode 19 = .ok (.istore_n 2, 1) := dk_61 (dk_at dksX3_setMode_0 19 rfl rfl)
theorem dX3_setMode_20 : decode cX3_setMode 20 = .ok (.aload_n 0, 1) := dk_42 (dk_at dksX3_setMode_0 20 rfl rfl)
theorem dX3_setMode_21 : decode cX3_setMode 21 = .ok (.iload_n 1, 1) := dk_27 (dk_at dksX3_setMode_0 21 rfl rfl)
theorem dX3_setMode_22 : decode cX3_setMode 22 = .ok (.putfield 196, 3) := dk_181 0 196 (dk_at dksX3_setMode_1 0 rfl rfl)
theorem dX3_setMode_25 : decode cX3_setMode 25 = .ok (.aload_n 0, 1) := dk_42 (dk_at dksX3_setMode_1 3 rfl rfl)
theorem dX3_setMode_26 : decode cX3_setMode 26 = .ok (.iload_n 2, 1) := dk_28 (dk_at dksX3_setMode_1 4 rfl rfl)
theorem dX3_setMode_27 : decode cX3_setMode 27 = .ok (.invokevirtual 138, 3) := dk_182 0 138 (dk_at dksX3_setMode_1 5 rfl rfl)
theorem dX3_setMode_30 : decode cX3_setMode 30 = .ok (.ireturn, 1) := dk_172 (dk_at dksX3_setMode_1 8 rfl rfl)
abbrev cX3_compare : ByteArray := prog_22_method_36_code
def yX3_compare : MethodName := ⟨RX3, "compare", "(II)I"⟩
def dkwX3_compare_4 : List UInt8 := [42, 182, 0, 236, 182, 0, 138, 172]
abbrev dktX3_compare_4 : List UInt8 := dkwX3_compare_4 ++ []
def dkwX3_compare_3 : List UInt8 := [180, 0, 63, 182, 0, 223, 42, 42, 180, 0, 193, 181, 0, 227, 42, 3, 181, 0, 230, 42, 182, 0, 233, 42]
abbrev dktX3_compare_3 : List UInt8 := dkwX3_compare_3 ++ dktX3_compare_4
def dkwX3_compare_2 : List UInt8 := [182, 0, 207, 181, 0, 217, 42, 42, 180, 0, 57, 42, 180, 0, 214, 42, 180, 0, 60, 42, 180, 0, 217, 42]
abbrev dktX3_compare_2 : List UInt8 := dkwX3_compare_2 ++ dktX3_compare_3
def dkwX3_compare_1 : List UInt8 := [181, 0, 220, 42, 42, 27, 42, 180, 0, 57, 182, 0, 207, 181, 0, 214, 42, 42, 28, 42, 180, 0, 60]
abbrev dktX3_compare_1 : List UInt8 := dkwX3_compare_1 ++ dktX3_compare_2
def dkwX3_compare_0 : List UInt8 := [27, 184, 0, 126, 153, 0, 10, 28, 184, 0, 126, 154, 0, 9, 42, 4, 182, 0, 130, 172, 42, 4]
abbrev dktX3_compare_0 : List UInt8 := dkwX3_compare_0 ++ dktX3_compare_1
theorem dksX3_compare_0 : cX3_compare.data.toList.drop 0 = dktX3_compare_0 := by decide +kernel
theorem dksX3_compare_1 : cX3_compare.data.toList.drop 22 = dktX3_compare_1 := dk_seg dksX3_compare_0 22 rfl rfl
theorem dksX3_compare_2 : cX3_compare.data.toList.drop 45 = dktX3_compare_2 := dk_seg dksX3_compare_1 23 rfl rfl
theorem dksX3_compare_3 : cX3_compare.data.toList.drop 69 = dktX3_compare_3 := dk_seg dksX3_compare_2 24 rfl rfl
theorem dksX3_compare_4 : cX3_compare.data.toList.drop 93 = dktX3_compare_4 := dk_seg dksX3_compare_3 24 rfl rfl
theorem dX3_compare_0 : decode cX3_compare 0 = .ok (.iload_n 1, 1) := dk_27 (dk_at dksX3_compare_0 0 rfl rfl)
theorem dX3_compare_1 : decode cX3_compare 1 = .ok (.invokestatic 126, 3) := dk_184 0 126 (dk_at dksX3_compare_0 1 rfl rfl)
theorem dX3_compare_4 : decode cX3_compare 4 = .ok (.ifCond .eq 10, 3) := dk_153 0 10 (dk_at dksX3_compare_0 4 rfl rfl)
theorem dX3_compare_7 : decode cX3_compare 7 = .ok (.iload_n 2, 1) := dk_28 (dk_at dksX3_compare_0 7 rfl rfl)
theorem dX3_compare_8 : decode cX3_compare 8 = .ok (.invokestatic 126, 3) := dk_184 0 126 (dk_at dksX3_compare_0 8 rfl rfl)
theorem dX3_compare_11 : decode cX3_compare 11 = .ok (.ifCond .ne 9, 3) := dk_154 0 9 (dk_at dksX3_compare_0 11 rfl rfl)
theorem dX3_compare_14 : decode cX3_compare 14 = .ok (.aload_n 0, 1) := dk_42 (dk_at dksX3_compare_0 14 rfl rfl)
theorem dX3_compare_15 : decode cX3_compare 15 = .ok (.iconst 1, 1) := dk_4 (dk_at dksX3_compare_0 15 rfl rfl)
theorem dX3_compare_16 : decode cX3_compare 16 = .ok (.invokevirtual 130, 3) := dk_182 0 130 (dk_at dksX3_compare_0 16 rfl rfl)
theorem dX3_compare_19 : decode cX3_compare 19 = .ok (.ireturn, 1) := dk_172 (dk_at dksX3_compare_0 19 rfl rfl)
theorem dX3_compare_20 : decode cX3_compare 20 = .ok (.aload_n 0, 1) := dk_42 (dk_at dksX3_compare_0 20 rfl rfl)
theorem dX3_compare_21 : decode cX3_compare 21 = .ok (.iconst 1, 1) := dk_4 (dk_at dksX3_compare_0 21 rfl rfl)
theorem dX3_compare_22 : decode cX3_compare 22 = .ok (.putfield 220, 3) := dk_181 0 220 (dk_at dksX3_compare_1 0 rfl rfl)
theorem dX3_compare_25 : decode cX3_compare 25 = .ok (.aload_n 0, 1) := dk_42 (dk_at dksX3_compare_1 3 rfl rfl)
theorem dX3_compare_26 : decode cX3_compare 26 = .ok (.aload_n 0, 1) := dk_42 (dk_at dksX3_compare_1 4 rfl rfl)
theorem dX3_compare_27 : decode cX3_compare 27 = .ok (.iload_n 1, 1) := dk_27 (dk_at dksX3_compare_1 5 rfl rfl)
theorem dX3_compare_28 : decode cX3_compare 28 = .ok (.aload_n 0, 1) := dk_42 (dk_at dksX3_compare_1 6 rfl rfl)
theorem dX3_compare_29 : decode cX3_compare 29 = .ok (.getfield 57, 3) := dk_180 0 57 (dk_at dksX3_compare_1 7 rfl rfl)
theorem dX3_compare_32 : decode cX3_compare 32 = .ok (.invokevirtual 207, 3) := dk_182 0 207 (dk_at dksX3_compare_1 10 rfl rfl)
theorem dX3_compare_35 : decode cX3_compare 35 = .ok (.putfield 214, 3) := dk_181 0 214 (dk_at dksX3_compare_1 13 rfl rfl)
theorem dX3_compare_38 : decode cX3_compare 38 = .ok (.aload_n 0, 1) := dk_42 (dk_at dksX3_compare_1 16 rfl rfl)
theorem dX3_compare_39 : decode cX3_compare 39 = .ok (.aload_n 0, 1) := dk_42 (dk_at dksX3_compare_1 17 rfl rfl)
theorem dX3_compare_40 : decode cX3_compare 40 = .ok (.iload_n 2, 1) := dk_28 (dk_at dksX3_compare_1 18 rfl rfl)
theorem dX3_compare_41 : decode cX3_compare 41 = .ok (.aload_n 0, 1) := dk_42 (dk_at dksX3_compare_1 19 rfl rfl)
theorem dX3_compare_42 : decode cX3_compare 42 = .ok (.getfield 60, 3) := dk_180 0 60 (dk_at dksX3_compare_1 20 rfl rfl)
theorem dX3_compare_45 : decode cX3_compare 45 = .ok (.invokevirtual 207, 3) := dk_182 0 207 (dk_at dksX3_compare_2 0 rfl rfl)
theorem dX3_compare_48 : decode cX3_compare 48 = .ok (.putfield 217, 3) := dk_181 0 217 (dk_at dksX3_compare_2 3 rfl rfl)
theorem dX3_compare_51 : decode cX3_compare 51 = .ok (.aload_n 0, 1) := dk_42 (dk_at dksX3_compare_2 6 rfl rfl)
theorem dX3_compare_52 : decode cX3_compare 52 = .ok (.aload_n 0, 1) := dk_42 (dk_at dksX3_compare_2 7 rfl rfl)
theorem dX3_compare_53 : decode cX3_compare 53 = .ok (.getfield 57, 3) := dk_180 0 57 (dk_at dksX3_compare_2 8 rfl rfl)
theorem dX3_compare_56 : decode cX3_compare 56 = .ok (.aload_n 0, 1) := dk_42 (dk_at dksX3_compare_2 11 rfl rfl)
theorem dX3_compare_57 : decode cX3_compare 57 = .ok (.getfield 214, 3) := dk_180 0 214 (dk_at dksX3_compare_2 12 rfl rfl)
theorem dX3_compare_60 : decode cX3_compare 60 = .ok (.aload_n 0, 1) := dk_42 (dk_at dksX3_compare_2 15 rfl rfl)
theorem dX3_compare_61 : decode cX3_compare 61 = .ok (.getfield 60, 3) := dk_180 0 60 (dk_at dksX3_compare_2 16 rfl rfl)
theorem dX3_compare_64 : decode cX3_compare 64 = .ok (.aload_n 0, 1) := dk_42 (dk_at dksX3_compare_2 19 rfl rfl)
theorem dX3_compare_65 : decode cX3_compare 65 = .ok (.getfield 217, 3) := dk_180 0 217 (dk_at dksX3_compare_2 20 rfl rfl)
theorem dX3_compare_68 : decode cX3_compare 68 = .ok (.aload_n 0, 1) := dk_42 (dk_at dksX3_compare_2 23 rfl rfl)
theorem dX3_compare_69 : decode cX3_compare 69 = .ok (.getfield 63, 3) := dk_180 0 63 (dk_at dksX3_compare_3 0 rfl rfl)
theorem dX3_compare_72 : decode cX3_compare 72 = .ok (.invokevirtual 223, 3) := dk_182 0 223 (dk_at dksX3_compare_3 3 rfl rfl)
theorem dX3_compare_75 : decode cX3_compare 75 = .ok (.aload_n 0, 1) := dk_42 (dk_at dksX3_compare_3 6 rfl rfl)
theorem dX3_compare_76 : decode cX3_compare 76 = .ok (.aload_n 0, 1) := dk_42 (dk_at dksX3_compare_3 7 rfl rfl)
theorem dX3_compare_77 : decode cX3_compare 77 = .ok (.getfield 193, 3) := dk_180 0 193 (dk_at dksX3_compare_3 8 rfl rfl)
theorem dX3_compare_80 : decode cX3_compare 80 = .ok (.putfield 227, 3) := dk_181 0 227 (dk_at dksX3_compare_3 11 rfl rfl)
theorem dX3_compare_83 : decode cX3_compare 83 = .ok (.aload_n 0, 1) := dk_42 (dk_at dksX3_compare_3 14 rfl rfl)
theorem dX3_compare_84 : decode cX3_compare 84 = .ok (.iconst 0, 1) := dk_3 (dk_at dksX3_compare_3 15 rfl rfl)
theorem dX3_compare_85 : decode cX3_compare 85 = .ok (.putfield 230, 3) := dk_181 0 230 (dk_at dksX3_compare_3 16 rfl rfl)
theorem dX3_compare_88 : decode cX3_compare 88 = .ok (.aload_n 0, 1) := dk_42 (dk_at dksX3_compare_3 19 rfl rfl)
theorem dX3_compare_89 : decode cX3_compare 89 = .ok (.invokevirtual 233, 3) := dk_182 0 233 (dk_at dksX3_compare_3 20 rfl rfl)
theorem dX3_compare_92 : decode cX3_compare 92 = .ok (.aload_n 0, 1) := dk_42 (dk_at dksX3_compare_3 23 rfl rfl)
theorem dX3_compare_93 : decode cX3_compare 93 = .ok (.aload_n 0, 1) := dk_42 (dk_at dksX3_compare_4 0 rfl rfl)
theorem dX3_compare_94 : decode cX3_compare 94 = .ok (.invokevirtual 236, 3) := dk_182 0 236 (dk_at dksX3_compare_4 1 rfl rfl)
theorem dX3_compare_97 : decode cX3_compare 97 = .ok (.invokevirtual 138, 3) := dk_182 0 138 (dk_at dksX3_compare_4 4 rfl rfl)
theorem dX3_compare_100 : decode cX3_compare 100 = .ok (.ireturn, 1) := dk_172 (dk_at dksX3_compare_4 7 rfl rfl)
abbrev cX3_aligns : ByteArray := prog_22_method_30_code
def yX3_aligns : MethodName := ⟨RX3, "aligns", "([II[II[I)V"⟩
def dkwX3_aligns_8 : List UInt8 := [42, 43, 45, 21, 6, 28, 21, 7, 21, 4, 25, 5, 182, 0, 203, 177]
abbrev dktX3_aligns_8 : List UInt8 := dkwX3_aligns_8 ++ []
def dkwX3_aligns_7 : List UInt8 := [46, 4, 96, 54, 7, 132, 8, 255, 42, 89, 180, 0, 193, 4, 96, 181, 0, 193, 132, 9, 1, 167, 255, 155]
abbrev dktX3_aligns_7 : List UInt8 := dkwX3_aligns_7 ++ dktX3_aligns_8
def dkwX3_aligns_6 : List UInt8 := [25, 5, 21, 9, 42, 180, 0, 45, 21, 9, 46, 79, 21, 9, 4, 96, 54, 6, 42, 180, 0, 45, 21, 9]
abbrev dktX3_aligns_6 : List UInt8 := dkwX3_aligns_6 ++ dktX3_aligns_7
def dkwX3_aligns_5 : List UInt8 := [161, 0, 66, 42, 43, 45, 21, 6, 21, 9, 21, 7, 42, 180, 0, 45, 21, 9, 46, 25, 5, 182, 0, 203]
abbrev dktX3_aligns_5 : List UInt8 := dkwX3_aligns_5 ++ dktX3_aligns_6
def dkwX3_aligns_4 : List UInt8 := [158, 0, 90, 42, 180, 0, 48, 21, 9, 46, 21, 8, 160, 0, 78, 42, 180, 0, 45, 21, 9, 46, 21, 7]
abbrev dktX3_aligns_4 : List UInt8 := dkwX3_aligns_4 ++ dktX3_aligns_5
def dkwX3_aligns_3 : List UInt8 := [184, 0, 182, 54, 8, 132, 9, 1, 167, 255, 233, 3, 54, 9, 21, 9, 28, 162, 0, 101, 21, 8]
abbrev dktX3_aligns_3 : List UInt8 := dkwX3_aligns_3 ++ dktX3_aligns_4
def dkwX3_aligns_2 : List UInt8 := [182, 0, 199, 3, 54, 8, 3, 54, 9, 21, 9, 28, 162, 0, 23, 21, 8, 42, 180, 0, 48, 21, 9, 46]
abbrev dktX3_aligns_2 : List UInt8 := dkwX3_aligns_2 ++ dktX3_aligns_3
def dkwX3_aligns_1 : List UInt8 := [181, 0, 193, 3, 54, 6, 3, 54, 7, 42, 180, 0, 196, 4, 160, 0, 151, 42, 43, 28, 45, 21, 4]
abbrev dktX3_aligns_1 : List UInt8 := dkwX3_aligns_1 ++ dktX3_aligns_2
def dkwX3_aligns_0 : List UInt8 := [3, 54, 6, 21, 6, 16, 24, 162, 0, 15, 25, 5, 21, 6, 2, 79, 132, 6, 1, 167, 255, 240, 42, 3]
abbrev dktX3_aligns_0 : List UInt8 := dkwX3_aligns_0 ++ dktX3_aligns_1
theorem dksX3_aligns_0 : cX3_aligns.data.toList.drop 0 = dktX3_aligns_0 := by decide +kernel
theorem dksX3_aligns_1 : cX3_aligns.data.toList.drop 24 = dktX3_aligns_1 := dk_seg dksX3_aligns_0 24 rfl rfl
theorem dksX3_aligns_2 : cX3_aligns.data.toList.drop 47 = dktX3_aligns_2 := dk_seg dksX3_aligns_1 23 rfl rfl
theorem dksX3_aligns_3 : cX3_aligns.data.toList.drop 71 = dktX3_aligns_3 := dk_seg dksX3_aligns_2 24 rfl rfl
theorem dksX3_aligns_4 : cX3_aligns.data.toList.drop 93 = dktX3_aligns_4 := dk_seg dksX3_aligns_3 22 rfl rfl
theorem dksX3_aligns_5 : cX3_aligns.data.toList.drop 117 = dktX3_aligns_5 := dk_seg dksX3_aligns_4 24 rfl rfl
theorem dksX3_aligns_6 : cX3_aligns.data.toList.drop 141 = dktX3_aligns_6 := dk_seg dksX3_aligns_5 24 rfl rfl
theorem dksX3_aligns_7 : cX3_aligns.data.toList.drop 165 = dktX3_aligns_7 := dk_seg dksX3_aligns_6 24 rfl rfl
theorem dksX3_aligns_8 : cX3_aligns.data.toList.drop 189 = dktX3_aligns_8 := dk_seg dksX3_aligns_7 24 rfl rfl
theorem dX3_aligns_0 : decode cX3_aligns 0 = .ok (.iconst 0, 1) := dk_3 (dk_at dksX3_aligns_0 0 rfl rfl)
theorem dX3_aligns_1 : decode cX3_aligns 1 = .ok (.istore 6, 2) := dk_54 6 (dk_at dksX3_aligns_0 1 rfl rfl)
theorem dX3_aligns_3 : decode cX3_aligns 3 = .ok (.iload 6, 2) := dk_21 6 (dk_at dksX3_aligns_0 3 rfl rfl)
theorem dX3_aligns_5 : decode cX3_aligns 5 = .ok (.bipush 24, 2) := dk_16 24 (dk_at dksX3_aligns_0 5 rfl rfl)
theorem dX3_aligns_7 : decode cX3_aligns 7 = .ok (.if_icmp .ge 15, 3) := dk_162 0 15 (dk_at dksX3_aligns_0 7 rfl rfl)
theorem dX3_aligns_10 : decode cX3_aligns 10 = .ok (.aload 5, 2) := dk_25 5 (dk_at dksX3_aligns_0 10 rfl rfl)
theorem dX3_aligns_12 : decode cX3_aligns 12 = .ok (.iload 6, 2) := dk_21 6 (dk_at dksX3_aligns_0 12 rfl rfl)
theorem dX3_aligns_14 : decode cX3_aligns 14 = .ok (.iconst (-1), 1) := dk_2 (dk_at dksX3_aligns_0 14 rfl rfl)
theorem dX3_aligns_15 : decode cX3_aligns 15 = .ok (.iastore, 1) := dk_79 (dk_at dksX3_aligns_0 15 rfl rfl)
theorem dX3_aligns_16 : decode cX3_aligns 16 = .ok (.iinc 6 1, 3) := dk_132 6 1 (dk_at dksX3_aligns_0 16 rfl rfl)
theorem dX3_aligns_19 : decode cX3_aligns 19 = .ok (.goto (-16), 3) := dk_167 255 240 (dk_at dksX3_aligns_0 19 rfl rfl)
theorem dX3_aligns_22 : decode cX3_aligns 22 = .ok (.aload_n 0, 1) := dk_42 (dk_at dksX3_aligns_0 22 rfl rfl)
theorem dX3_aligns_23 : decode cX3_aligns 23 = .ok (.iconst 0, 1) := dk_3 (dk_at dksX3_aligns_0 23 rfl rfl)
theorem dX3_aligns_24 : decode cX3_aligns 24 = .ok (.putfield 193, 3) := dk_181 0 193 (dk_at dksX3_aligns_1 0 rfl rfl)
theorem dX3_aligns_27 : decode cX3_aligns 27 = .ok (.iconst 0, 1) := dk_3 (dk_at dksX3_aligns_1 3 rfl rfl)
theorem dX3_aligns_28 : decode cX3_aligns 28 = .ok (.istore 6, 2) := dk_54 6 (dk_at dksX3_aligns_1 4 rfl rfl)
theorem dX3_aligns_30 : decode cX3_aligns 30 = .ok (.iconst 0, 1) := dk_3 (dk_at dksX3_aligns_1 6 rfl rfl)
theorem dX3_aligns_31 : decode cX3_aligns 31 = .ok (.istore 7, 2) := dk_54 7 (dk_at dksX3_aligns_1 7 rfl rfl)
theorem dX3_aligns_33 : decode cX3_aligns 33 = .ok (.aload_n 0, 1) := dk_42 (dk_at dksX3_aligns_1 9 rfl rfl)
theorem dX3_aligns_34 : decode cX3_aligns 34 = .ok (.getfield 196, 3) := dk_180 0 196 (dk_at dksX3_aligns_1 10 rfl rfl)
theorem dX3_aligns_37 : decode cX3_aligns 37 = .ok (.iconst 1, 1) := dk_4 (dk_at dksX3_aligns_1 13 rfl rfl)
theorem dX3_aligns_38 : decode cX3_aligns 38 = .ok (.if_icmp .ne 151, 3) := dk_160 0 151 (dk_at dksX3_aligns_1 14 rfl rfl)
theorem dX3_aligns_41 : decode cX3_aligns 41 = .ok (.aload_n 0, 1) := dk_42 (dk_at dksX3_aligns_1 17 rfl rfl)
theorem dX3_aligns_42 : decode cX3_aligns 42 = .ok (.aload_n 1, 1) := dk_43 (dk_at dksX3_aligns_1 18 rfl rfl)
theorem dX3_aligns_43 : decode cX3_aligns 43 = .ok (.iload_n 2, 1) := dk_28 (dk_at dksX3_aligns_1 19 rfl rfl)
theorem dX3_aligns_44 : decode cX3_aligns 44 = .ok (.aload_n 3, 1) := dk_45 (dk_at dksX3_aligns_1 20 rfl rfl)
theorem dX3_aligns_45 : decode cX3_aligns 45 = .ok (.iload 4, 2) := dk_21 4 (dk_at dksX3_aligns_1 21 rfl rfl)
theorem dX3_aligns_47 : decode cX3_aligns 47 = .ok (.invokevirtual 199, 3) := dk_182 0 199 (dk_at dksX3_aligns_2 0 rfl rfl)
theorem dX3_aligns_50 : decode cX3_aligns 50 = .ok (.iconst 0, 1) := dk_3 (dk_at dksX3_aligns_2 3 rfl rfl)
theorem dX3_aligns_51 : decode cX3_aligns 51 = .ok (.istore 8, 2) := dk_54 8 (dk_at dksX3_aligns_2 4 rfl rfl)
theorem dX3_aligns_53 : decode cX3_aligns 53 = .ok (.iconst 0, 1) := dk_3 (dk_at dksX3_aligns_2 6 rfl rfl)
theorem dX3_aligns_54 : decode cX3_aligns 54 = .ok (.istore 9, 2) := dk_54 9 (dk_at dksX3_aligns_2 7 rfl rfl)
theorem dX3_aligns_56 : decode cX3_aligns 56 = .ok (.iload 9, 2) := dk_21 9 (dk_at dksX3_aligns_2 9 rfl rfl)
theorem dX3_aligns_58 : decode cX3_aligns 58 = .ok (.iload_n 2, 1) := dk_28 (dk_at dksX3_aligns_2 11 rfl rfl)
theorem dX3_aligns_59 : decode cX3_aligns 59 = .ok (.if_icmp .ge 23, 3) := dk_162 0 23 (dk_at dksX3_aligns_2 12 rfl rfl)
theorem dX3_aligns_62 : decode cX3_aligns 62 = .ok (.iload 8, 2) := dk_21 8 (dk_at dksX3_aligns_2 15 rfl rfl)
theorem dX3_aligns_64 : decode cX3_aligns 64 = .ok (.aload_n 0, 1) := dk_42 (dk_at dksX3_aligns_2 17 rfl rfl)
theorem dX3_aligns_65 : decode cX3_aligns 65 = .ok (.getfield 48, 3) := dk_180 0 48 (dk_at dksX3_aligns_2 18 rfl rfl)
theorem dX3_aligns_68 : decode cX3_aligns 68 = .ok (.iload 9, 2) := dk_21 9 (dk_at dksX3_aligns_2 21 rfl rfl)
theorem dX3_aligns_70 : decode cX3_aligns 70 = .ok (.iaload, 1) := dk_46 (dk_at dksX3_aligns_2 23 rfl rfl)
theorem dX3_aligns_71 : decode cX3_aligns 71 = .ok (.invokestatic 182, 3) := dk_184 0 182 (dk_at dksX3_aligns_3 0 rfl rfl)
theorem dX3_aligns_74 : decode cX3_aligns 74 = .ok (.istore 8, 2) := dk_54 8 (dk_at dksX3_aligns_3 3 rfl rfl)
theorem dX3_aligns_76 : decode cX3_aligns 76 = .ok (.iinc 9 1, 3) := dk_132 9 1 (dk_at dksX3_aligns_3 5 rfl rfl)
theorem dX3_aligns_79 : decode cX3_aligns 79 = .ok (.goto (-23), 3) := dk_167 255 233 (dk_at dksX3_aligns_3 8 rfl rfl)
theorem dX3_aligns_82 : decode cX3_aligns 82 = .ok (.iconst 0, 1) := dk_3 (dk_at dksX3_aligns_3 11 rfl rfl)
theorem dX3_aligns_83 : decode cX3_aligns 83 = .ok (.istore 9, 2) := dk_54 9 (dk_at dksX3_aligns_3 12 rfl rfl)
theorem dX3_aligns_85 : decode cX3_aligns 85 = .ok (.iload 9, 2) := dk_21 9 (dk_at dksX3_aligns_3 14 rfl rfl)
theorem dX3_aligns_87 : decode cX3_aligns 87 = .ok (.iload_n 2, 1) := dk_28 (dk_at dksX3_aligns_3 16 rfl rfl)
theorem dX3_aligns_88 : decode cX3_aligns 88 = .ok (.if_icmp .ge 101, 3) := dk_162 0 101 (dk_at dksX3_aligns_3 17 rfl rfl)
theorem dX3_aligns_91 : decode cX3_aligns 91 = .ok (.iload 8, 2) := dk_21 8 (dk_at dksX3_aligns_3 20 rfl rfl)
theorem dX3_aligns_93 : decode cX3_aligns 93 = .ok (.ifCond .le 90, 3) := dk_158 0 90 (dk_at dksX3_aligns_4 0 rfl rfl)
theorem dX3_aligns_96 : decode cX3_aligns 96 = .ok (.aload_n 0, 1) := dk_42 (dk_at dksX3_aligns_4 3 rfl rfl)
theorem dX3_aligns_97 : decode cX3_aligns 97 = .ok (.getfield 48, 3) := dk_180 0 48 (dk_at dksX3_aligns_4 4 rfl rfl)
theorem dX3_aligns_100 : decode cX3_aligns 100 = .ok (.iload 9, 2) := dk_21 9 (dk_at dksX3_aligns_4 7 rfl rfl)
theorem dX3_aligns_102 : decode cX3_aligns 102 = .ok (.iaload, 1) := dk_46 (dk_at dksX3_aligns_4 9 rfl rfl)
theorem dX3_aligns_103 : decode cX3_aligns 103 = .ok (.iload 8, 2) := dk_21 8 (dk_at dksX3_aligns_4 10 rfl rfl)
theorem dX3_aligns_105 : decode cX3_aligns 105 = .ok (.if_icmp .ne 78, 3) := dk_160 0 78 (dk_at dksX3_aligns_4 12 rfl rfl)
theorem dX3_aligns_108 : decode cX3_aligns 108 = .ok (.aload_n 0, 1) := dk_42 (dk_at dksX3_aligns_4 15 rfl rfl)
theorem dX3_aligns_109 : decode cX3_aligns 109 = .ok (.getfield 45, 3) := dk_180 0 45 (dk_at dksX3_aligns_4 16 rfl rfl)
theorem dX3_aligns_112 : decode cX3_aligns 112 = .ok (.iload 9, 2) := dk_21 9 (dk_at dksX3_aligns_4 19 rfl rfl)
theorem dX3_aligns_114 : decode cX3_aligns 114 = .ok (.iaload, 1) := dk_46 (dk_at dksX3_aligns_4 21 rfl rfl)
theorem dX3_aligns_115 : decode cX3_aligns 115 = .ok (.iload 7, 2) := dk_21 7 (dk_at dksX3_aligns_4 22 rfl rfl)
theorem dX3_aligns_117 : decode cX3_aligns 117 = .ok (.if_icmp .lt 66, 3) := dk_161 0 66 (dk_at dksX3_aligns_5 0 rfl rfl)
theorem dX3_aligns_120 : decode cX3_aligns 120 = .ok (.aload_n 0, 1) := dk_42 (dk_at dksX3_aligns_5 3 rfl rfl)
theorem dX3_aligns_121 : decode cX3_aligns 121 = .ok (.aload_n 1, 1) := dk_43 (dk_at dksX3_aligns_5 4 rfl rfl)
theorem dX3_aligns_122 : decode cX3_aligns 122 = .ok (.aload_n 3, 1) := dk_45 (dk_at dksX3_aligns_5 5 rfl rfl)
theorem dX3_aligns_123 : decode cX3_aligns 123 = .ok (.iload 6, 2) := dk_21 6 (dk_at dksX3_aligns_5 6 rfl rfl)
theorem dX3_aligns_125 : decode cX3_aligns 125 = .ok (.iload 9, 2) := dk_21 9 (dk_at dksX3_aligns_5 8 rfl rfl)
theorem dX3_aligns_127 : decode cX3_aligns 127 = .ok (.iload 7, 2) := dk_21 7 (dk_at dksX3_aligns_5 10 rfl rfl)
theorem dX3_aligns_129 : decode cX3_aligns 129 = .ok (.aload_n 0, 1) := dk_42 (dk_at dksX3_aligns_5 12 rfl rfl)
theorem dX3_aligns_130 : decode cX3_aligns 130 = .ok (.getfield 45, 3) := dk_180 0 45 (dk_at dksX3_aligns_5 13 rfl rfl)
theorem dX3_aligns_133 : decode cX3_aligns 133 = .ok (.iload 9, 2) := dk_21 9 (dk_at dksX3_aligns_5 16 rfl rfl)
theorem dX3_aligns_135 : decode cX3_aligns 135 = .ok (.iaload, 1) := dk_46 (dk_at dksX3_aligns_5 18 rfl rfl)
theorem dX3_aligns_136 : decode cX3_aligns 136 = .ok (.aload 5, 2) := dk_25 5 (dk_at dksX3_aligns_5 19 rfl rfl)
theorem dX3_aligns_138 : decode cX3_aligns 138 = .ok (.invokevirtual 203, 3) := dk_182 0 203 (dk_at dksX3_aligns_5 21 rfl rfl)
theorem dX3_aligns_141 : decode cX3_aligns 141 = .ok (.aload 5, 2) := dk_25 5 (dk_at dksX3_aligns_6 0 rfl rfl)
theorem dX3_aligns_143 : decode cX3_aligns 143 = .ok (.iload 9, 2) := dk_21 9 (dk_at dksX3_aligns_6 2 rfl rfl)
theorem dX3_aligns_145 : decode cX3_aligns 145 = .ok (.aload_n 0, 1) := dk_42 (dk_at dksX3_aligns_6 4 rfl rfl)
theorem dX3_aligns_146 : decode cX3_aligns 146 = .ok (.getfield 45, 3) := dk_180 0 45 (dk_at dksX3_aligns_6 5 rfl rfl)
theorem dX3_aligns_149 : decode cX3_aligns 149 = .ok (.iload 9, 2) := dk_21 9 (dk_at dksX3_aligns_6 8 rfl rfl)
theorem dX3_aligns_151 : decode cX3_aligns 151 = .ok (.iaload, 1) := dk_46 (dk_at dksX3_aligns_6 10 rfl rfl)
theorem dX3_aligns_152 : decode cX3_aligns 152 = .ok (.iastore, 1) := dk_79 (dk_at dksX3_aligns_6 11 rfl rfl)
theorem dX3_aligns_153 : decode cX3_aligns 153 = .ok (.iload 9, 2) := dk_21 9 (dk_at dksX3_aligns_6 12 rfl rfl)
theorem dX3_aligns_155 : decode cX3_aligns 155 = .ok (.iconst 1, 1) := dk_4 (dk_at dksX3_aligns_6 14 rfl rfl)
theorem dX3_aligns_156 : decode cX3_aligns 156 = .ok (.iadd, 1) := dk_96 (dk_at dksX3_aligns_6 15 rfl rfl)
theorem dX3_aligns_157 : decode cX3_aligns 157 = .ok (.istore 6, 2) := dk_54 6 (dk_at dksX3_aligns_6 16 rfl rfl)
theorem dX3_aligns_159 : decode cX3_aligns 159 = .ok (.aload_n 0, 1) := dk_42 (dk_at dksX3_aligns_6 18 rfl rfl)
theorem dX3_aligns_160 : decode cX3_aligns 160 = .ok (.getfield 45, 3) := dk_180 0 45 (dk_at dksX3_aligns_6 19 rfl rfl)
theorem dX3_aligns_163 : decode cX3_aligns 163 = .ok (.iload 9, 2) := dk_21 9 (dk_at dksX3_aligns_6 22 rfl rfl)
theorem dX3_aligns_165 : decode cX3_aligns 165 = .ok (.iaload, 1) := dk_46 (dk_at dksX3_aligns_7 0 rfl rfl)
theorem dX3_aligns_166 : decode cX3_aligns 166 = .ok (.iconst 1, 1) := dk_4 (dk_at dksX3_aligns_7 1 rfl rfl)
theorem dX3_aligns_167 : decode cX3_aligns 167 = .ok (.iadd, 1) := dk_96 (dk_at dksX3_aligns_7 2 rfl rfl)
theorem dX3_aligns_168 : decode cX3_aligns 168 = .ok (.istore 7, 2) := dk_54 7 (dk_at dksX3_aligns_7 3 rfl rfl)
theorem dX3_aligns_170 : decode cX3_aligns 170 = .ok (.iinc 8 (-1), 3) := dk_132 8 255 (dk_at dksX3_aligns_7 5 rfl rfl)
theorem dX3_aligns_173 : decode cX3_aligns 173 = .ok (.aload_n 0, 1) := dk_42 (dk_at dksX3_aligns_7 8 rfl rfl)
theorem dX3_aligns_174 : decode cX3_aligns 174 = .ok (.dup, 1) := dk_89 (dk_at dksX3_aligns_7 9 rfl rfl)
theorem dX3_aligns_175 : decode cX3_aligns 175 = .ok (.getfield 193, 3) := dk_180 0 193 (dk_at dksX3_aligns_7 10 rfl rfl)
theorem dX3_aligns_178 : decode cX3_aligns 178 = .ok (.iconst 1, 1) := dk_4 (dk_at dksX3_aligns_7 13 rfl rfl)
theorem dX3_aligns_179 : decode cX3_aligns 179 = .ok (.iadd, 1) := dk_96 (dk_at dksX3_aligns_7 14 rfl rfl)
theorem dX3_aligns_180 : decode cX3_aligns 180 = .ok (.putfield 193, 3) := dk_181 0 193 (dk_at dksX3_aligns_7 15 rfl rfl)
theorem dX3_aligns_183 : decode cX3_aligns 183 = .ok (.iinc 9 1, 3) := dk_132 9 1 (dk_at dksX3_aligns_7 18 rfl rfl)
theorem dX3_aligns_186 : decode cX3_aligns 186 = .ok (.goto (-101), 3) := dk_167 255 155 (dk_at dksX3_aligns_7 21 rfl rfl)
theorem dX3_aligns_189 : decode cX3_aligns 189 = .ok (.aload_n 0, 1) := dk_42 (dk_at dksX3_aligns_8 0 rfl rfl)
theorem dX3_aligns_190 : decode cX3_aligns 190 = .ok (.aload_n 1, 1) := dk_43 (dk_at dksX3_aligns_8 1 rfl rfl)
theorem dX3_aligns_191 : decode cX3_aligns 191 = .ok (.aload_n 3, 1) := dk_45 (dk_at dksX3_aligns_8 2 rfl rfl)
theorem dX3_aligns_192 : decode cX3_aligns 192 = .ok (.iload 6, 2) := dk_21 6 (dk_at dksX3_aligns_8 3 rfl rfl)
theorem dX3_aligns_194 : decode cX3_aligns 194 = .ok (.iload_n 2, 1) := dk_28 (dk_at dksX3_aligns_8 5 rfl rfl)
theorem dX3_aligns_195 : decode cX3_aligns 195 = .ok (.iload 7, 2) := dk_21 7 (dk_at dksX3_aligns_8 6 rfl rfl)
theorem dX3_aligns_197 : decode cX3_aligns 197 = .ok (.iload 4, 2) := dk_21 4 (dk_at dksX3_aligns_8 8 rfl rfl)
theorem dX3_aligns_199 : decode cX3_aligns 199 = .ok (.aload 5, 2) := dk_25 5 (dk_at dksX3_aligns_8 10 rfl rfl)
theorem dX3_aligns_201 : decode cX3_aligns 201 = .ok (.invokevirtual 203, 3) := dk_182 0 203 (dk_at dksX3_aligns_8 12 rfl rfl)
theorem dX3_aligns_204 : decode cX3_aligns 204 = .ok (.return_, 1) := dk_177 (dk_at dksX3_aligns_8 15 rfl rfl)
abbrev cX3_tellCandidates : ByteArray := prog_22_method_29_code
def yX3_tellCandidates : MethodName := ⟨RX3, "tellCandidates", "([II[II)V"⟩
def dkwX3_tellCandidates_7 : List UInt8 := [167, 0, 10, 42, 180, 0, 48, 21, 5, 46, 79, 132, 6, 1, 167, 255, 194, 132, 5, 255, 167, 255, 80, 177]
abbrev dktX3_tellCandidates_7 : List UInt8 := dkwX3_tellCandidates_7 ++ []
def dkwX3_tellCandidates_6 : List UInt8 := [164, 0, 25, 42, 180, 0, 48, 21, 5, 46, 4, 42, 180, 0, 48, 21, 6, 46, 96, 184, 0, 182]
abbrev dktX3_tellCandidates_6 : List UInt8 := dkwX3_tellCandidates_6 ++ dktX3_tellCandidates_7
def dkwX3_tellCandidates_5 : List UInt8 := [162, 0, 62, 42, 180, 0, 48, 21, 5, 42, 180, 0, 45, 21, 6, 46, 42, 180, 0, 45, 21, 5, 46]
abbrev dktX3_tellCandidates_5 : List UInt8 := dkwX3_tellCandidates_5 ++ dktX3_tellCandidates_6
def dkwX3_tellCandidates_4 : List UInt8 := [132, 6, 1, 167, 255, 216, 42, 180, 0, 48, 21, 5, 4, 79, 21, 5, 4, 96, 54, 6, 21, 6, 28]
abbrev dktX3_tellCandidates_4 : List UInt8 := dkwX3_tellCandidates_4 ++ dktX3_tellCandidates_5
def dkwX3_tellCandidates_3 : List UInt8 := [21, 6, 46, 43, 21, 5, 46, 160, 0, 8, 21, 6, 167, 0, 10, 42, 180, 0, 45, 21, 5, 46, 79]
abbrev dktX3_tellCandidates_3 : List UInt8 := dkwX3_tellCandidates_3 ++ dktX3_tellCandidates_4
def dkwX3_tellCandidates_2 : List UInt8 := [184, 0, 189, 4, 160, 0, 128, 3, 54, 6, 21, 6, 21, 4, 162, 0, 39, 42, 180, 0, 45, 21, 5, 45]
abbrev dktX3_tellCandidates_2 : List UInt8 := dkwX3_tellCandidates_2 ++ dktX3_tellCandidates_3
def dkwX3_tellCandidates_1 : List UInt8 := [3, 79, 43, 28, 43, 21, 5, 46, 184, 0, 189, 4, 160, 0, 142, 45, 21, 4, 43, 21, 5, 46]
abbrev dktX3_tellCandidates_1 : List UInt8 := dkwX3_tellCandidates_1 ++ dktX3_tellCandidates_2
def dkwX3_tellCandidates_0 : List UInt8 := [28, 4, 100, 54, 5, 21, 5, 155, 0, 177, 42, 180, 0, 45, 21, 5, 2, 79, 42, 180, 0, 48, 21, 5]
abbrev dktX3_tellCandidates_0 : List UInt8 := dkwX3_tellCandidates_0 ++ dktX3_tellCandidates_1
theorem dksX3_tellCandidates_0 : cX3_tellCandidates.data.toList.drop 0 = dktX3_tellCandidates_0 := by decide +kernel
theorem dksX3_tellCandidates_1 : cX3_tellCandidates.data.toList.drop 24 = dktX3_tellCandidates_1 := dk_seg dksX3_tellCandidates_0 24 rfl rfl
theorem dksX3_tellCandidates_2 : cX3_tellCandidates.data.toList.drop 46 = dktX3_tellCandidates_2 := dk_seg dksX3_tellCandidates_1 22 rfl rfl
theorem dksX3_tellCandidates_3 : cX3_tellCandidates.data.toList.drop 70 = dktX3_tellCandidates_3 := dk_seg dksX3_tellCandidates_2 24 rfl rfl
theorem dksX3_tellCandidates_4 : cX3_tellCandidates.data.toList.drop 93 = dktX3_tellCandidates_4 := dk_seg dksX3_tellCandidates_3 23 rfl rfl
theorem dksX3_tellCandidates_5 : cX3_tellCandidates.data.toList.drop 116 = dktX3_tellCandidates_5 := dk_seg dksX3_tellCandidates_4 23 rfl rfl
theorem dksX3_tellCandidates_6 : cX3_tellCandidates.data.toList.drop 139 = dktX3_tellCandidates_6 := dk_seg dksX3_tellCandidates_5 23 rfl rfl
theorem dksX3_tellCandidates_7 : cX3_tellCandidates.data.toList.drop 161 = dktX3_tellCandidates_7 := dk_seg dksX3_tellCandidates_6 22 rfl rfl
theorem dX3_tellCandidates_0 : decode cX3_tellCandidates 0 = .ok (.iload_n 2, 1) := dk_28 (dk_at dksX3_tellCandidates_0 0 rfl rfl)
theorem dX3_tellCandidates_1 : decode cX3_tellCandidates 1 = .ok (.iconst 1, 1) := dk_4 (dk_at dksX3_tellCandidates_0 1 rfl rfl)
theorem dX3_tellCandidates_2 : decode cX3_tellCandidates 2 = .ok (.isub, 1) := dk_100 (dk_at dksX3_tellCandidates_0 2 rfl rfl)
theorem dX3_tellCandidates_3 : decode cX3_tellCandidates 3 = .ok (.istore 5, 2) := dk_54 5 (dk_at dksX3_tellCandidates_0 3 rfl rfl)
theorem dX3_tellCandidates_5 : decode cX3_tellCandidates 5 = .ok (.iload 5, 2) := dk_21 5 (dk_at dksX3_tellCandidates_0 5 rfl rfl)
theorem dX3_tellCandidates_7 : decode cX3_tellCandidates 7 = .ok (.ifCond .lt 177, 3) := dk_155 0 177 (dk_at dksX3_tellCandidates_0 7 rfl rfl)
theorem dX3_tellCandidates_10 : decode cX3_tellCandidates 10 = .ok (.aload_n 0, 1) := dk_42 (dk_at dksX3_tellCandidates_0 10 rfl rfl)
theorem dX3_tellCandidates_11 : decode cX3_tellCandidates 11 = .ok (.getfield 45, 3) := dk_180 0 45 (dk_at dksX3_tellCandidates_0 11 rfl rfl)
theorem dX3_tellCandidates_14 : decode cX3_tellCandidates 14 = .ok (.iload 5, 2) := dk_21 5 (dk_at dksX3_tellCandidates_0 14 rfl rfl)
theorem dX3_tellCandidates_16 : decode cX3_tellCandidates 16 = .ok (.iconst (-1), 1) := dk_2 (dk_at dksX3_tellCandidates_0 16 rfl rfl)
theorem dX3_tellCandidates_17 : decode cX3_tellCandidates 17 = .ok (.iastore, 1) := dk_79 (dk_at dksX3_tellCandidates_0 17 rfl rfl)
theorem dX3_tellCandidates_18 : decode cX3_tellCandidates 18 = .ok (.aload_n 0, 1) := dk_42 (dk_at dksX3_tellCandidates_0 18 rfl rfl)
theorem dX3_tellCandidates_19 : decode cX3_tellCandidates 19 = .ok (.getfield 48, 3) := dk_180 0 48 (dk_at dksX3_tellCandidates_0 19 rfl rfl)
theorem dX3_tellCandidates_22 : decode cX3_tellCandidates 22 = .ok (.iload 5, 2) := dk_21 5 (dk_at dksX3_tellCandidates_0 22 rfl rfl)
theorem dX3_tellCandidates_24 : decode cX3_tellCandidates 24 = .ok (.iconst 0, 1) := dk_3 (dk_at dksX3_tellCandidates_1 0 rfl rfl)
theorem dX3_tellCandidates_25 : decode cX3_tellCandidates 25 = .ok (.iastore, 1) := dk_79 (dk_at dksX3_tellCandidates_1 1 rfl rfl)
theorem dX3_tellCandidates_26 : decode cX3_tellCandidates 26 = .ok (.aload_n 1, 1) := dk_43 (dk_at dksX3_tellCandidates_1 2 rfl rfl)
theorem dX3_tellCandidates_27 : decode cX3_tellCandidates 27 = .ok (.iload_n 2, 1) := dk_28 (dk_at dksX3_tellCandidates_1 3 rfl rfl)
theorem dX3_tellCandidates_28 : decode cX3_tellCandidates 28 = .ok (.aload_n 1, 1) := dk_43 (dk_at dksX3_tellCandidates_1 4 rfl rfl)
theorem dX3_tellCandidates_29 : decode cX3_tellCandidates 29 = .ok (.iload 5, 2) := dk_21 5 (dk_at dksX3_tellCandidates_1 5 rfl rfl)
theorem dX3_tellCandidates_31 : decode cX3_tellCandidates 31 = .ok (.iaload, 1) := dk_46 (dk_at dksX3_tellCandidates_1 7 rfl rfl)
theorem dX3_tellCandidates_32 : decode cX3_tellCandidates 32 = .ok (.invokestatic 189, 3) := dk_184 0 189 (dk_at dksX3_tellCandidates_1 8 rfl rfl)
theorem dX3_tellCandidates_35 : decode cX3_tellCandidates 35 = .ok (.iconst 1, 1) := dk_4 (dk_at dksX3_tellCandidates_1 11 rfl rfl)
theorem dX3_tellCandidates_36 : decode cX3_tellCandidates 36 = .ok (.if_icmp .ne 142, 3) := dk_160 0 142 (dk_at dksX3_tellCandidates_1 12 rfl rfl)
theorem dX3_tellCandidates_39 : decode cX3_tellCandidates 39 = .ok (.aload_n 3, 1) := dk_45 (dk_at dksX3_tellCandidates_1 15 rfl rfl)
theorem dX3_tellCandidates_40 : decode cX3_tellCandidates 40 = .ok (.iload 4, 2) := dk_21 4 (dk_at dksX3_tellCandidates_1 16 rfl rfl)
theorem dX3_tellCandidates_42 : decode cX3_tellCandidates 42 = .ok (.aload_n 1, 1) := dk_43 (dk_at dksX3_tellCandidates_1 18 rfl rfl)
theorem dX3_tellCandidates_43 : decode cX3_tellCandidates 43 = .ok (.iload 5, 2) := dk_21 5 (dk_at dksX3_tellCandidates_1 19 rfl rfl)
theorem dX3_tellCandidates_45 : decode cX3_tellCandidates 45 = .ok (.iaload, 1) := dk_46 (dk_at dksX3_tellCandidates_1 21 rfl rfl)
theorem dX3_tellCandidates_46 : decode cX3_tellCandidates 46 = .ok (.invokestatic 189, 3) := dk_184 0 189 (dk_at dksX3_tellCandidates_2 0 rfl rfl)
theorem dX3_tellCandidates_49 : decode cX3_tellCandidates 49 = .ok (.iconst 1, 1) := dk_4 (dk_at dksX3_tellCandidates_2 3 rfl rfl)
theorem dX3_tellCandidates_50 : decode cX3_tellCandidates 50 = .ok (.if_icmp .ne 128, 3) := dk_160 0 128 (dk_at dksX3_tellCandidates_2 4 rfl rfl)
theorem dX3_tellCandidates_53 : decode cX3_tellCandidates 53 = .ok (.iconst 0, 1) := dk_3 (dk_at dksX3_tellCandidates_2 7 rfl rfl)
theorem dX3_tellCandidates_54 : decode cX3_tellCandidates 54 = .ok (.istore 6, 2) := dk_54 6 (dk_at dksX3_tellCandidates_2 8 rfl rfl)
theorem dX3_tellCandidates_56 : decode cX3_tellCandidates 56 = .ok (.iload 6, 2) := dk_21 6 (dk_at dksX3_tellCandidates_2 10 rfl rfl)
theorem dX3_tellCandidates_58 : decode cX3_tellCandidates 58 = .ok (.iload 4, 2) := dk_21 4 (dk_at dksX3_tellCandidates_2 12 rfl rfl)
theorem dX3_tellCandidates_60 : decode cX3_tellCandidates 60 = .ok (.if_icmp .ge 39, 3) := dk_162 0 39 (dk_at dksX3_tellCandidates_2 14 rfl rfl)
theorem dX3_tellCandidates_63 : decode cX3_tellCandidates 63 = .ok (.aload_n 0, 1) := dk_42 (dk_at dksX3_tellCandidates_2 17 rfl rfl)
theorem dX3_tellCandidates_64 : decode cX3_tellCandidates 64 = .ok (.getfield 45, 3) := dk_180 0 45 (dk_at dksX3_tellCandidates_2 18 rfl rfl)
theorem dX3_tellCandidates_67 : decode cX3_tellCandidates 67 = .ok (.iload 5, 2) := dk_21 5 (dk_at dksX3_tellCandidates_2 21 rfl rfl)
theorem dX3_tellCandidates_69 : decode cX3_tellCandidates 69 = .ok (.aload_n 3, 1) := dk_45 (dk_at dksX3_tellCandidates_2 23 rfl rfl)
theorem dX3_tellCandidates_70 : decode cX3_tellCandidates 70 = .ok (.iload 6, 2) := dk_21 6 (dk_at dksX3_tellCandidates_3 0 rfl rfl)
theorem dX3_tellCandidates_72 : decode cX3_tellCandidates 72 = .ok (.iaload, 1) := dk_46 (dk_at dksX3_tellCandidates_3 2 rfl rfl)
theorem dX3_tellCandidates_73 : decode cX3_tellCandidates 73 = .ok (.aload_n 1, 1) := dk_43 (dk_at dksX3_tellCandidates_3 3 rfl rfl)
theorem dX3_tellCandidates_74 : decode cX3_tellCandidates 74 = .ok (.iload 5, 2) := dk_21 5 (dk_at dksX3_tellCandidates_3 4 rfl rfl)
theorem dX3_tellCandidates_76 : decode cX3_tellCandidates 76 = .ok (.iaload, 1) := dk_46 (dk_at dksX3_tellCandidates_3 6 rfl rfl)
theorem dX3_tellCandidates_77 : decode cX3_tellCandidates 77 = .ok (.if_icmp .ne 8, 3) := dk_160 0 8 (dk_at dksX3_tellCandidates_3 7 rfl rfl)
theorem dX3_tellCandidates_80 : decode cX3_tellCandidates 80 = .ok (.iload 6, 2) := dk_21 6 (dk_at dksX3_tellCandidates_3 10 rfl rfl)
theorem dX3_tellCandidates_82 : decode cX3_tellCandidates 82 = .ok (.goto 10, 3) := dk_167 0 10 (dk_at dksX3_tellCandidates_3 12 rfl rfl)
theorem dX3_tellCandidates_85 : decode cX3_tellCandidates 85 = .ok (.aload_n 0, 1) := dk_42 (dk_at dksX3_tellCandidates_3 15 rfl rfl)
theorem dX3_tellCandidates_86 : decode cX3_tellCandidates 86 = .ok (.getfield 45, 3) := dk_180 0 45 (dk_at dksX3_tellCandidates_3 16 rfl rfl)
theorem dX3_tellCandidates_89 : decode cX3_tellCandidates 89 = .ok (.iload 5, 2) := dk_21 5 (dk_at dksX3_tellCandidates_3 19 rfl rfl)
theorem dX3_tellCandidates_91 : decode cX3_tellCandidates 91 = .ok (.iaload, 1) := dk_46 (dk_at dksX3_tellCandidates_3 21 rfl rfl)
theorem dX3_tellCandidates_92 : decode cX3_tellCandidates 92 = .ok (.iastore, 1) := dk_79 (dk_at dksX3_tellCandidates_3 22 rfl rfl)
theorem dX3_tellCandidates_93 : decode cX3_tellCandidates 93 = .ok (.iinc 6 1, 3) := dk_132 6 1 (dk_at dksX3_tellCandidates_4 0 rfl rfl)
theorem dX3_tellCandidates_96 : decode cX3_tellCandidates 96 = .ok (.goto (-40), 3) := dk_167 255 216 (dk_at dksX3_tellCandidates_4 3 rfl rfl)
theorem dX3_tellCandidates_99 : decode cX3_tellCandidates 99 = .ok (.aload_n 0, 1) := dk_42 (dk_at dksX3_tellCandidates_4 6 rfl rfl)
theorem dX3_tellCandidates_100 : decode cX3_tellCandidates 100 = .ok (.getfield 48, 3) := dk_180 0 48 (dk_at dksX3_tellCandidates_4 7 rfl rfl)
theorem dX3_tellCandidates_103 : decode cX3_tellCandidates 103 = .ok (.iload 5, 2) := dk_21 5 (dk_at dksX3_tellCandidates_4 10 rfl rfl)
theorem dX3_tellCandidates_105 : decode cX3_tellCandidates 105 = .ok (.iconst 1, 1) := dk_4 (dk_at dksX3_tellCandidates_4 12 rfl rfl)
theorem dX3_tellCandidates_106 : decode cX3_tellCandidates 106 = .ok (.iastore, 1) := dk_79 (dk_at dksX3_tellCandidates_4 13 rfl rfl)
theorem dX3_tellCandidates_107 : decode cX3_tellCandidates 107 = .ok (.iload 5, 2) := dk_21 5 (dk_at dksX3_tellCandidates_4 14 rfl rfl)
theorem dX3_tellCandidates_109 : decode cX3_tellCandidates 109 = .ok (.iconst 1, 1) := dk_4 (dk_at dksX3_tellCandidates_4 16 rfl rfl)
theorem dX3_tellCandidates_110 : decode cX3_tellCandidates 110 = .ok (.iadd, 1) := dk_96 (dk_at dksX3_tellCandidates_4 17 rfl rfl)
theorem dX3_tellCandidates_111 : decode cX3_tellCandidates 111 = .ok (.istore 6, 2) := dk_54 6 (dk_at dksX3_tellCandidates_4 18 rfl rfl)
theorem dX3_tellCandidates_113 : decode cX3_tellCandidates 113 = .ok (.iload 6, 2) := dk_21 6 (dk_at dksX3_tellCandidates_4 20 rfl rfl)
theorem dX3_tellCandidates_115 : decode cX3_tellCandidates 115 = .ok (.iload_n 2, 1) := dk_28 (dk_at dksX3_tellCandidates_4 22 rfl rfl)
theorem dX3_tellCandidates_116 : decode cX3_tellCandidates 116 = .ok (.if_icmp .ge 62, 3) := dk_162 0 62 (dk_at dksX3_tellCandidates_5 0 rfl rfl)
theorem dX3_tellCandidates_119 : decode cX3_tellCandidates 119 = .ok (.aload_n 0, 1) := dk_42 (dk_at dksX3_tellCandidates_5 3 rfl rfl)
theorem dX3_tellCandidates_120 : decode cX3_tellCandidates 120 = .ok (.getfield 48, 3) := dk_180 0 48 (dk_at dksX3_tellCandidates_5 4 rfl rfl)
theorem dX3_tellCandidates_123 : decode cX3_tellCandidates 123 = .ok (.iload 5, 2) := dk_21 5 (dk_at dksX3_tellCandidates_5 7 rfl rfl)
theorem dX3_tellCandidates_125 : decode cX3_tellCandidates 125 = .ok (.aload_n 0, 1) := dk_42 (dk_at dksX3_tellCandidates_5 9 rfl rfl)
theorem dX3_tellCandidates_126 : decode cX3_tellCandidates 126 = .ok (.getfield 45, 3) := dk_180 0 45 (dk_at dksX3_tellCandidates_5 10 rfl rfl)
theorem dX3_tellCandidates_129 : decode cX3_tellCandidates 129 = .ok (.iload 6, 2) := dk_21 6 (dk_at dksX3_tellCandidates_5 13 rfl rfl)
theorem dX3_tellCandidates_131 : decode cX3_tellCandidates 131 = .ok (.iaload, 1) := dk_46 (dk_at dksX3_tellCandidates_5 15 rfl rfl)
theorem dX3_tellCandidates_132 : decode cX3_tellCandidates 132 = .ok (.aload_n 0, 1) := dk_42 (dk_at dksX3_tellCandidates_5 16 rfl rfl)
theorem dX3_tellCandidates_133 : decode cX3_tellCandidates 133 = .ok (.getfield 45, 3) := dk_180 0 45 (dk_at dksX3_tellCandidates_5 17 rfl rfl)
theorem dX3_tellCandidates_136 : decode cX3_tellCandidates 136 = .ok (.iload 5, 2) := dk_21 5 (dk_at dksX3_tellCandidates_5 20 rfl rfl)
theorem dX3_tellCandidates_138 : decode cX3_tellCandidates 138 = .ok (.iaload, 1) := dk_46 (dk_at dksX3_tellCandidates_5 22 rfl rfl)
theorem dX3_tellCandidates_139 : decode cX3_tellCandidates 139 = .ok (.if_icmp .le 25, 3) := dk_164 0 25 (dk_at dksX3_tellCandidates_6 0 rfl rfl)
theorem dX3_tellCandidates_142 : decode cX3_tellCandidates 142 = .ok (.aload_n 0, 1) := dk_42 (dk_at dksX3_tellCandidates_6 3 rfl rfl)
theorem dX3_tellCandidates_143 : decode cX3_tellCandidates 143 = .ok (.getfield 48, 3) := dk_180 0 48 (dk_at dksX3_tellCandidates_6 4 rfl rfl)
theorem dX3_tellCandidates_146 : decode cX3_tellCandidates 146 = .ok (.iload 5, 2) := dk_21 5 (dk_at dksX3_tellCandidates_6 7 rfl rfl)
theorem dX3_tellCandidates_148 : decode cX3_tellCandidates 148 = .ok (.iaload, 1) := dk_46 (dk_at dksX3_tellCandidates_6 9 rfl rfl)
theorem dX3_tellCandidates_149 : decode cX3_tellCandidates 149 = .ok (.iconst 1, 1) := dk_4 (dk_at dksX3_tellCandidates_6 10 rfl rfl)
theorem dX3_tellCandidates_150 : decode cX3_tellCandidates 150 = .ok (.aload_n 0, 1) := dk_42 (dk_at dksX3_tellCandidates_6 11 rfl rfl)
theorem dX3_tellCandidates_151 : decode cX3_tellCandidates 151 = .ok (.getfield 48, 3) := dk_180 0 48 (dk_at dksX3_tellCandidates_6 12 rfl rfl)
theorem dX3_tellCandidates_154 : decode cX3_tellCandidates 154 = .ok (.iload 6, 2) := dk_21 6 (dk_at dksX3_tellCandidates_6 15 rfl rfl)
theorem dX3_tellCandidates_156 : decode cX3_tellCandidates 156 = .ok (.iaload, 1) := dk_46 (dk_at dksX3_tellCandidates_6 17 rfl rfl)
theorem dX3_tellCandidates_157 : decode cX3_tellCandidates 157 = .ok (.iadd, 1) := dk_96 (dk_at dksX3_tellCandidates_6 18 rfl rfl)
theorem dX3_tellCandidates_158 : decode cX3_tellCandidates 158 = .ok (.invokestatic 182, 3) := dk_184 0 182 (dk_at dksX3_tellCandidates_6 19 rfl rfl)
theorem dX3_tellCandidates_161 : decode cX3_tellCandidates 161 = .ok (.goto 10, 3) := dk_167 0 10 (dk_at dksX3_tellCandidates_7 0 rfl rfl)
theorem dX3_tellCandidates_164 : decode cX3_tellCandidates 164 = .ok (.aload_n 0, 1) := dk_42 (dk_at dksX3_tellCandidates_7 3 rfl rfl)
theorem dX3_tellCandidates_165 : decode cX3_tellCandidates 165 = .ok (.getfield 48, 3) := dk_180 0 48 (dk_at dksX3_tellCandidates_7 4 rfl rfl)
theorem dX3_tellCandidates_168 : decode cX3_tellCandidates 168 = .ok (.iload 5, 2) := dk_21 5 (dk_at dksX3_tellCandidates_7 7 rfl rfl)
theorem dX3_tellCandidates_170 : decode cX3_tellCandidates 170 = .ok (.iaload, 1) := dk_46 (dk_at dksX3_tellCandidates_7 9 rfl rfl)
theorem dX3_tellCandidates_171 : decode cX3_tellCandidates 171 = .ok (.iastore, 1) := dk_79 (dk_at dksX3_tellCandidates_7 10 rfl rfl)
theorem dX3_tellCandidates_172 : decode cX3_tellCandidates 172 = .ok (.iinc 6 1, 3) := dk_132 6 1 (dk_at dksX3_tellCandidates_7 11 rfl rfl)
theorem dX3_tellCandidates_175 : decode cX3_tellCandidates 175 = .ok (.goto (-62), 3) := dk_167 255 194 (dk_at dksX3_tellCandidates_7 14 rfl rfl)
theorem dX3_tellCandidates_178 : decode cX3_tellCandidates 178 = .ok (.iinc 5 (-1), 3) := dk_132 5 255 (dk_at dksX3_tellCandidates_7 17 rfl rfl)
theorem dX3_tellCandidates_181 : decode cX3_tellCandidates 181 = .ok (.goto (-176), 3) := dk_167 255 80 (dk_at dksX3_tellCandidates_7 20 rfl rfl)
theorem dX3_tellCandidates_184 : decode cX3_tellCandidates 184 = .ok (.return_, 1) := dk_177 (dk_at dksX3_tellCandidates_7 23 rfl rfl)
abbrev cX3_occurs : ByteArray := prog_22_method_28_code
def yX3_occurs : MethodName := ⟨RX3, "occurs", "([III)I"⟩
def dkwX3_occurs_1 : List UInt8 := [3, 96, 62, 132, 4, 1, 167, 255, 231, 29, 172]
abbrev dktX3_occurs_1 : List UInt8 := dkwX3_occurs_1 ++ []
def dkwX3_occurs_0 : List UInt8 := [3, 62, 3, 54, 4, 21, 4, 27, 162, 0, 25, 29, 42, 21, 4, 46, 28, 160, 0, 7, 4, 167, 0, 4]
abbrev dktX3_occurs_0 : List UInt8 := dkwX3_occurs_0 ++ dktX3_occurs_1
theorem dksX3_occurs_0 : cX3_occurs.data.toList.drop 0 = dktX3_occurs_0 := by decide +kernel
theorem dksX3_occurs_1 : cX3_occurs.data.toList.drop 24 = dktX3_occurs_1 := dk_seg dksX3_occurs_0 24 rfl rfl
theorem dX3_occurs_0 : decode cX3_occurs 0 = .ok (.iconst 0, 1) := dk_3 (dk_at dksX3_occurs_0 0 rfl rfl)
theorem dX3_occurs_1 : decode cX3_occurs 1 = .ok (.istore_n 3, 1) := dk_62 (dk_at dksX3_occurs_0 1 rfl rfl)
theorem dX3_occurs_2 : decode cX3_occurs 2 = .ok (.iconst 0, 1) := dk_3 (dk_at dksX3_occurs_0 2 rfl rfl)
theorem dX3_occurs_3 : decode cX3_occurs 3 = .ok (.istore 4, 2) := dk_54 4 (dk_at dksX3_occurs_0 3 rfl rfl)
theorem dX3_occurs_5 : decode cX3_occurs 5 = .ok (.iload 4, 2) := dk_21 4 (dk_at dksX3_occurs_0 5 rfl rfl)
theorem dX3_occurs_7 : decode cX3_occurs 7 = .ok (.iload_n 1, 1) := dk_27 (dk_at dksX3_occurs_0 7 rfl rfl)
theorem dX3_occurs_8 : decode cX3_occurs 8 = .ok (.if_icmp .ge 25, 3) := dk_162 0 25 (dk_at dksX3_occurs_0 8 rfl rfl)
theorem dX3_occurs_11 : decode cX3_occurs 11 = .ok (.iload_n 3, 1) := dk_29 (dk_at dksX3_occurs_0 11 rfl rfl)
theorem dX3_occurs_12 : decode cX3_occurs 12 = .ok (.aload_n 0, 1) := dk_42 (dk_at dksX3_occurs_0 12 rfl rfl)
theorem dX3_occurs_13 : decode cX3_occurs 13 = .ok (.iload 4, 2) := dk_21 4 (dk_at dksX3_occurs_0 13 rfl rfl)
theorem dX3_occurs_15 : decode cX3_occurs 15 = .ok (.iaload, 1) := dk_46 (dk_at dksX3_occurs_0 15 rfl rfl)
theorem dX3_occurs_16 : decode cX3_occurs 16 = .ok (.iload_n 2, 1) := dk_28 (dk_at dksX3_occurs_0 16 rfl rfl)
theorem dX3_occurs_17 : decode cX3_occurs 17 = .ok (.if_icmp .ne 7, 3) := dk_160 0 7 (dk_at dksX3_occurs_0 17 rfl rfl)
theorem dX3_occurs_20 : decode cX3_occurs 20 = .ok (.iconst 1, 1) := dk_4 (dk_at dksX3_occurs_0 20 rfl rfl)
theorem dX3_occurs_21 : decode cX3_occurs 21 = .ok (.goto 4, 3) := dk_167 0 4 (dk_at dksX3_occurs_0 21 rfl rfl)
theorem dX3_occurs_24 : decode cX3_occurs 24 = .ok (.iconst 0, 1) := dk_3 (dk_at dksX3_occurs_1 0 rfl rfl)
theorem dX3_occurs_25 : decode cX3_occurs 25 = .ok (.iadd, 1) := dk_96 (dk_at dksX3_occurs_1 1 rfl rfl)
theorem dX3_occurs_26 : decode cX3_occurs 26 = .ok (.istore_n 3, 1) := dk_62 (dk_at dksX3_occurs_1 2 rfl rfl)
theorem dX3_occurs_27 : decode cX3_occurs 27 = .ok (.iinc 4 1, 3) := dk_132 4 1 (dk_at dksX3_occurs_1 3 rfl rfl)
theorem dX3_occurs_30 : decode cX3_occurs 30 = .ok (.goto (-25), 3) := dk_167 255 231 (dk_at dksX3_occurs_1 6 rfl rfl)
theorem dX3_occurs_33 : decode cX3_occurs 33 = .ok (.iload_n 3, 1) := dk_29 (dk_at dksX3_occurs_1 9 rfl rfl)
theorem dX3_occurs_34 : decode cX3_occurs 34 = .ok (.ireturn, 1) := dk_172 (dk_at dksX3_occurs_1 10 rfl rfl)
abbrev cX3_pairs : ByteArray := prog_22_method_27_code
def yX3_pairs : MethodName := ⟨RX3, "pairs", "([I[IIIII[I)V"⟩
def dkwX3_pairs_5 : List UInt8 := [167, 255, 169, 177]
abbrev dktX3_pairs_5 : List UInt8 := dkwX3_pairs_5 ++ []
def dkwX3_pairs_4 : List UInt8 := [21, 10, 21, 11, 79, 21, 11, 4, 96, 54, 8, 132, 9, 255, 132, 11, 1, 167, 255, 186, 132, 10, 1]
abbrev dktX3_pairs_4 : List UInt8 := dkwX3_pairs_4 ++ dktX3_pairs_5
def dkwX3_pairs_3 : List UInt8 := [160, 0, 38, 42, 21, 10, 4, 96, 21, 11, 4, 96, 182, 0, 178, 21, 9, 4, 100, 160, 0, 19, 25, 7]
abbrev dktX3_pairs_3 : List UInt8 := dkwX3_pairs_3 ++ dktX3_pairs_4
def dkwX3_pairs_2 : List UInt8 := [25, 7, 21, 10, 46, 2, 160, 0, 60, 21, 9, 158, 0, 55, 43, 21, 10, 46, 44, 21, 11, 46]
abbrev dktX3_pairs_2 : List UInt8 := dkwX3_pairs_2 ++ dktX3_pairs_3
def dkwX3_pairs_1 : List UInt8 := [54, 9, 29, 54, 10, 21, 10, 21, 4, 162, 0, 86, 21, 8, 54, 11, 21, 11, 21, 6, 162, 0, 69]
abbrev dktX3_pairs_1 : List UInt8 := dkwX3_pairs_1 ++ dktX3_pairs_2
def dkwX3_pairs_0 : List UInt8 := [42, 43, 44, 29, 21, 4, 21, 5, 21, 6, 182, 0, 185, 21, 5, 54, 8, 42, 29, 21, 5, 182, 0, 178]
abbrev dktX3_pairs_0 : List UInt8 := dkwX3_pairs_0 ++ dktX3_pairs_1
theorem dksX3_pairs_0 : cX3_pairs.data.toList.drop 0 = dktX3_pairs_0 := by decide +kernel
theorem dksX3_pairs_1 : cX3_pairs.data.toList.drop 24 = dktX3_pairs_1 := dk_seg dksX3_pairs_0 24 rfl rfl
theorem dksX3_pairs_2 : cX3_pairs.data.toList.drop 47 = dktX3_pairs_2 := dk_seg dksX3_pairs_1 23 rfl rfl
theorem dksX3_pairs_3 : cX3_pairs.data.toList.drop 69 = dktX3_pairs_3 := dk_seg dksX3_pairs_2 22 rfl rfl
theorem dksX3_pairs_4 : cX3_pairs.data.toList.drop 93 = dktX3_pairs_4 := dk_seg dksX3_pairs_3 24 rfl rfl
theorem dksX3_pairs_5 : cX3_pairs.data.toList.drop 116 = dktX3_pairs_5 := dk_seg dksX3_pairs_4 23 rfl rfl
theorem dX3_pairs_0 : decode cX3_pairs 0 = .ok (.aload_n 0, 1) := dk_42 (dk_at dksX3_pairs_0 0 rfl rfl)
theorem dX3_pairs_1 : decode cX3_pairs 1 = .ok (.aload_n 1, 1) := dk_43 (dk_at dksX3_pairs_0 1 rfl rfl)
theorem dX3_pairs_2 : decode cX3_pairs 2 = .ok (.aload_n 2, 1) := dk_44 (dk_at dksX3_pairs_0 2 rfl rfl)
theorem dX3_pairs_3 : decode cX3_pairs 3 = .ok (.iload_n 3, 1) := dk_29 (dk_at dksX3_pairs_0 3 rfl rfl)
theorem dX3_pairs_4 : decode cX3_pairs 4 = .ok (.iload 4, 2) := dk_21 4 (dk_at dksX3_pairs_0 4 rfl rfl)
theorem dX3_pairs_6 : decode cX3_pairs 6 = .ok (.iload 5, 2) := dk_21 5 (dk_at dksX3_pairs_0 6 rfl rfl)
theorem dX3_pairs_8 : decode cX3_pairs 8 = .ok (.iload 6, 2) := dk_21 6 (dk_at dksX3_pairs_0 8 rfl rfl)
theorem dX3_pairs_10 : decode cX3_pairs 10 = .ok (.invokevirtual 185, 3) := dk_182 0 185 (dk_at dksX3_pairs_0 10 rfl rfl)
theorem dX3_pairs_13 : decode cX3_pairs 13 = .ok (.iload 5, 2) := dk_21 5 (dk_at dksX3_pairs_0 13 rfl rfl)
theorem dX3_pairs_15 : decode cX3_pairs 15 = .ok (.istore 8, 2) := dk_54 8 (dk_at dksX3_pairs_0 15 rfl rfl)
theorem dX3_pairs_17 : decode cX3_pairs 17 = .ok (.aload_n 0, 1) := dk_42 (dk_at dksX3_pairs_0 17 rfl rfl)
theorem dX3_pairs_18 : decode cX3_pairs 18 = .ok (.iload_n 3, 1) := dk_29 (dk_at dksX3_pairs_0 18 rfl rfl)
theorem dX3_pairs_19 : decode cX3_pairs 19 = .ok (.iload 5, 2) := dk_21 5 (dk_at dksX3_pairs_0 19 rfl rfl)
theorem dX3_pairs_21 : decode cX3_pairs 21 = .ok (.invokevirtual 178, 3) := dk_182 0 178 (dk_at dksX3_pairs_0 21 rfl rfl)
theorem dX3_pairs_24 : decode cX3_pairs 24 = .ok (.istore 9, 2) := dk_54 9 (dk_at dksX3_pairs_1 0 rfl rfl)
theorem dX3_pairs_26 : decode cX3_pairs 26 = .ok (.iload_n 3, 1) := dk_29 (dk_at dksX3_pairs_1 2 rfl rfl)
theorem dX3_pairs_27 : decode cX3_pairs 27 = .ok (.istore 10, 2) := dk_54 10 (dk_at dksX3_pairs_1 3 rfl rfl)
theorem dX3_pairs_29 : decode cX3_pairs 29 = .ok (.iload 10, 2) := dk_21 10 (dk_at dksX3_pairs_1 5 rfl rfl)
theorem dX3_pairs_31 : decode cX3_pairs 31 = .ok (.iload 4, 2) := dk_21 4 (dk_at dksX3_pairs_1 7 rfl rfl)
theorem dX3_pairs_33 : decode cX3_pairs 33 = .ok (.if_icmp .ge 86, 3) := dk_162 0 86 (dk_at dksX3_pairs_1 9 rfl rfl)
theorem dX3_pairs_36 : decode cX3_pairs 36 = .ok (.iload 8, 2) := dk_21 8 (dk_at dksX3_pairs_1 12 rfl rfl)
theorem dX3_pairs_38 : decode cX3_pairs 38 = .ok (.istore 11, 2) := dk_54 11 (dk_at dksX3_pairs_1 14 rfl rfl)
theorem dX3_pairs_40 : decode cX3_pairs 40 = .ok (.iload 11, 2) := dk_21 11 (dk_at dksX3_pairs_1 16 rfl rfl)
theorem dX3_pairs_42 : decode cX3_pairs 42 = .ok (.iload 6, 2) := dk_21 6 (dk_at dksX3_pairs_1 18 rfl rfl)
theorem dX3_pairs_44 : decode cX3_pairs 44 = .ok (.if_icmp .ge 69, 3) := dk_162 0 69 (dk_at dksX3_pairs_1 20 rfl rfl)
theorem dX3_pairs_47 : decode cX3_pairs 47 = .ok (.aload 7, 2) := dk_25 7 (dk_at dksX3_pairs_2 0 rfl rfl)
theorem dX3_pairs_49 : decode cX3_pairs 49 = .ok (.iload 10, 2) := dk_21 10 (dk_at dksX3_pairs_2 2 rfl rfl)
theorem dX3_pairs_51 : decode cX3_pairs 51 = .ok (.iaload, 1) := dk_46 (dk_at dksX3_pairs_2 4 rfl rfl)
theorem dX3_pairs_52 : decode cX3_pairs 52 = .ok (.iconst (-1), 1) := dk_2 (dk_at dksX3_pairs_2 5 rfl rfl)
theorem dX3_pairs_53 : decode cX3_pairs 53 = .ok (.if_icmp .ne 60, 3) := dk_160 0 60 (dk_at dksX3_pairs_2 6 rfl rfl)
theorem dX3_pairs_56 : decode cX3_pairs 56 = .ok (.iload 9, 2) := dk_21 9 (dk_at dksX3_pairs_2 9 rfl rfl)
theorem dX3_pairs_58 : decode cX3_pairs 58 = .ok (.ifCond .le 55, 3) := dk_158 0 55 (dk_at dksX3_pairs_2 11 rfl rfl)
theorem dX3_pairs_61 : decode cX3_pairs 61 = .ok (.aload_n 1, 1) := dk_43 (dk_at dksX3_pairs_2 14 rfl rfl)
theorem dX3_pairs_62 : decode cX3_pairs 62 = .ok (.iload 10, 2) := dk_21 10 (dk_at dksX3_pairs_2 15 rfl rfl)
theorem dX3_pairs_64 : decode cX3_pairs 64 = .ok (.iaload, 1) := dk_46 (dk_at dksX3_pairs_2 17 rfl rfl)
theorem dX3_pairs_65 : decode cX3_pairs 65 = .ok (.aload_n 2, 1) := dk_44 (dk_at dksX3_pairs_2 18 rfl rfl)
theorem dX3_pairs_66 : decode cX3_pairs 66 = .ok (.iload 11, 2) := dk_21 11 (dk_at dksX3_pairs_2 19 rfl rfl)
theorem dX3_pairs_68 : decode cX3_pairs 68 = .ok (.iaload, 1) := dk_46 (dk_at dksX3_pairs_2 21 rfl rfl)
theorem dX3_pairs_69 : decode cX3_pairs 69 = .ok (.if_icmp .ne 38, 3) := dk_160 0 38 (dk_at dksX3_pairs_3 0 rfl rfl)
theorem dX3_pairs_72 : decode cX3_pairs 72 = .ok (.aload_n 0, 1) := dk_42 (dk_at dksX3_pairs_3 3 rfl rfl)
theorem dX3_pairs_73 : decode cX3_pairs 73 = .ok (.iload 10, 2) := dk_21 10 (dk_at dksX3_pairs_3 4 rfl rfl)
theorem dX3_pairs_75 : decode cX3_pairs 75 = .ok (.iconst 1, 1) := dk_4 (dk_at dksX3_pairs_3 6 rfl rfl)
theorem dX3_pairs_76 : decode cX3_pairs 76 = .ok (.iadd, 1) := dk_96 (dk_at dksX3_pairs_3 7 rfl rfl)
theorem dX3_pairs_77 : decode cX3_pairs 77 = .ok (.iload 11, 2) := dk_21 11 (dk_at dksX3_pairs_3 8 rfl rfl)
theorem dX3_pairs_79 : decode cX3_pairs 79 = .ok (.iconst 1, 1) := dk_4 (dk_at dksX3_pairs_3 10 rfl rfl)
theorem dX3_pairs_80 : decode cX3_pairs 80 = .ok (.iadd, 1) := dk_96 (dk_at dksX3_pairs_3 11 rfl rfl)
theorem dX3_pairs_81 : decode cX3_pairs 81 = .ok (.invokevirtual 178, 3) := dk_182 0 178 (dk_at dksX3_pairs_3 12 rfl rfl)
theorem dX3_pairs_84 : decode cX3_pairs 84 = .ok (.iload 9, 2) := dk_21 9 (dk_at dksX3_pairs_3 15 rfl rfl)
theorem dX3_pairs_86 : decode cX3_pairs 86 = .ok (.iconst 1, 1) := dk_4 (dk_at dksX3_pairs_3 17 rfl rfl)
theorem dX3_pairs_87 : decode cX3_pairs 87 = .ok (.isub, 1) := dk_100 (dk_at dksX3_pairs_3 18 rfl rfl)
theorem dX3_pairs_88 : decode cX3_pairs 88 = .ok (.if_icmp .ne 19, 3) := dk_160 0 19 (dk_at dksX3_pairs_3 19 rfl rfl)
theorem dX3_pairs_91 : decode cX3_pairs 91 = .ok (.aload 7, 2) := dk_25 7 (dk_at dksX3_pairs_3 22 rfl rfl)
theorem dX3_pairs_93 : decode cX3_pairs 93 = .ok (.iload 10, 2) := dk_21 10 (dk_at dksX3_pairs_4 0 rfl rfl)
theorem dX3_pairs_95 : decode cX3_pairs 95 = .ok (.iload 11, 2) := dk_21 11 (dk_at dksX3_pairs_4 2 rfl rfl)
theorem dX3_pairs_97 : decode cX3_pairs 97 = .ok (.iastore, 1) := dk_79 (dk_at dksX3_pairs_4 4 rfl rfl)
theorem dX3_pairs_98 : decode cX3_pairs 98 = .ok (.iload 11, 2) := dk_21 11 (dk_at dksX3_pairs_4 5 rfl rfl)
theorem dX3_pairs_100 : decode cX3_pairs 100 = .ok (.iconst 1, 1) := dk_4 (dk_at dksX3_pairs_4 7 rfl rfl)
theorem dX3_pairs_101 : decode cX3_pairs 101 = .ok (.iadd, 1) := dk_96 (dk_at dksX3_pairs_4 8 rfl rfl)
theorem dX3_pairs_102 : decode cX3_pairs 102 = .ok (.istore 8, 2) := dk_54 8 (dk_at dksX3_pairs_4 9 rfl rfl)
theorem dX3_pairs_104 : decode cX3_pairs 104 = .ok (.iinc 9 (-1), 3) := dk_132 9 255 (dk_at dksX3_pairs_4 11 rfl rfl)
theorem dX3_pairs_107 : decode cX3_pairs 107 = .ok (.iinc 11 1, 3) := dk_132 11 1 (dk_at dksX3_pairs_4 14 rfl rfl)
theorem dX3_pairs_110 : decode cX3_pairs 110 = .ok (.goto (-70), 3) := dk_167 255 186 (dk_at dksX3_pairs_4 17 rfl rfl)
theorem dX3_pairs_113 : decode cX3_pairs 113 = .ok (.iinc 10 1, 3) := dk_132 10 1 (dk_at dksX3_pairs_4 20 rfl rfl)
theorem dX3_pairs_116 : decode cX3_pairs 116 = .ok (.goto (-87), 3) := dk_167 255 169 (dk_at dksX3_pairs_5 0 rfl rfl)
theorem dX3_pairs_119 : decode cX3_pairs 119 = .ok (.return_, 1) := dk_177 (dk_at dksX3_pairs_5 3 rfl rfl)
abbrev cX3_tellParts : ByteArray := prog_22_method_34_code
def yX3_tellParts : MethodName := ⟨RX3, "tellParts", "()V"⟩
def dkwX3_tellParts_6 : List UInt8 := [96, 181, 0, 211, 29, 4, 96, 60, 21, 5, 4, 96, 61, 132, 3, 1, 167, 255, 111, 177]
abbrev dktX3_tellParts_6 : List UInt8 := dkwX3_tellParts_6 ++ []
def dkwX3_tellParts_5 : List UInt8 := [96, 28, 79, 42, 180, 0, 69, 7, 42, 180, 0, 211, 104, 6, 96, 21, 5, 79, 42, 89, 180, 0, 211, 4]
abbrev dktX3_tellParts_5 : List UInt8 := dkwX3_tellParts_5 ++ dktX3_tellParts_6
def dkwX3_tellParts_4 : List UInt8 := [180, 0, 69, 7, 42, 180, 0, 211, 104, 4, 96, 29, 79, 42, 180, 0, 69, 7, 42, 180, 0, 211, 104, 5]
abbrev dktX3_tellParts_4 : List UInt8 := dkwX3_tellParts_4 ++ dktX3_tellParts_5
def dkwX3_tellParts_3 : List UInt8 := [163, 0, 9, 21, 5, 28, 164, 0, 68, 42, 180, 0, 69, 7, 42, 180, 0, 211, 104, 27, 79, 42]
abbrev dktX3_tellParts_3 : List UInt8 := dkwX3_tellParts_3 ++ dktX3_tellParts_4
def dkwX3_tellParts_2 : List UInt8 := [21, 4, 153, 0, 10, 42, 180, 0, 217, 167, 0, 9, 42, 180, 0, 63, 29, 46, 54, 5, 29, 27]
abbrev dktX3_tellParts_2 : List UInt8 := dkwX3_tellParts_2 ++ dktX3_tellParts_3
def dkwX3_tellParts_1 : List UInt8 := [160, 0, 7, 4, 167, 0, 4, 3, 54, 4, 21, 4, 154, 0, 12, 42, 180, 0, 63, 29, 46, 155, 0, 108]
abbrev dktX3_tellParts_1 : List UInt8 := dkwX3_tellParts_1 ++ dktX3_tellParts_2
def dkwX3_tellParts_0 : List UInt8 := [42, 3, 181, 0, 211, 3, 60, 3, 61, 3, 62, 29, 42, 180, 0, 214, 163, 0, 143, 29, 42, 180, 0, 214]
abbrev dktX3_tellParts_0 : List UInt8 := dkwX3_tellParts_0 ++ dktX3_tellParts_1
theorem dksX3_tellParts_0 : cX3_tellParts.data.toList.drop 0 = dktX3_tellParts_0 := by decide +kernel
theorem dksX3_tellParts_1 : cX3_tellParts.data.toList.drop 24 = dktX3_tellParts_1 := dk_seg dksX3_tellParts_0 24 rfl rfl
theorem dksX3_tellParts_2 : cX3_tellParts.data.toList.drop 48 = dktX3_tellParts_2 := dk_seg dksX3_tellParts_1 24 rfl rfl
theorem dksX3_tellParts_3 : cX3_tellParts.data.toList.drop 70 = dktX3_tellParts_3 := dk_seg dksX3_tellParts_2 22 rfl rfl
theorem dksX3_tellParts_4 : cX3_tellParts.data.toList.drop 92 = dktX3_tellParts_4 := dk_seg dksX3_tellParts_3 22 rfl rfl
theorem dksX3_tellParts_5 : cX3_tellParts.data.toList.drop 116 = dktX3_tellParts_5 := dk_seg dksX3_tellParts_4 24 rfl rfl
theorem dksX3_tellParts_6 : cX3_tellParts.data.toList.drop 140 = dktX3_tellParts_6 := dk_seg dksX3_tellParts_5 24 rfl rfl
theorem dX3_tellParts_0 : decode cX3_tellParts 0 = .ok (.aload_n 0, 1) := dk_42 (dk_at dksX3_tellParts_0 0 rfl rfl)
theorem dX3_tellParts_1 : decode cX3_tellParts 1 = .ok (.iconst 0, 1) := dk_3 (dk_at dksX3_tellParts_0 1 rfl rfl)
theorem dX3_tellParts_2 : decode cX3_tellParts 2 = .ok (.putfield 211, 3) := dk_181 0 211 (dk_at dksX3_tellParts_0 2 rfl rfl)
theorem dX3_tellParts_5 : decode cX3_tellParts 5 = .ok (.iconst 0, 1) := dk_3 (dk_at dksX3_tellParts_0 5 rfl rfl)
theorem dX3_tellParts_6 : decode cX3_tellParts 6 = .ok (.istore_n 1, 1) := dk_60 (dk_at dksX3_tellParts_0 6 rfl rfl)
theorem dX3_tellParts_7 : decode cX3_tellParts 7 = .ok (.iconst 0, 1) := dk_3 (dk_at dksX3_tellParts_0 7 rfl rfl)
theorem dX3_tellParts_8 : decode cX3_tellParts 8 = .ok (.istore_n 2, 1) := dk_61 (dk_at dksX3_tellParts_0 8 rfl rfl)
theorem dX3_tellParts_9 : decode cX3_tellParts 9 = .ok (.iconst 0, 1) := dk_3 (dk_at dksX3_tellParts_0 9 rfl rfl)
theorem dX3_tellParts_10 : decode cX3_tellParts 10 = .ok (.istore_n 3, 1) := dk_62 (dk_at dksX3_tellParts_0 10 rfl rfl)
theorem dX3_tellParts_11 : decode cX3_tellParts 11 = .ok (.iload_n 3, 1) := dk_29 (dk_at dksX3_tellParts_0 11 rfl rfl)
theorem dX3_tellParts_12 : decode cX3_tellParts 12 = .ok (.aload_n 0, 1) := dk_42 (dk_at dksX3_tellParts_0 12 rfl rfl)
theorem dX3_tellParts_13 : decode cX3_tellParts 13 = .ok (.getfield 214, 3) := dk_180 0 214 (dk_at dksX3_tellParts_0 13 rfl rfl)
theorem dX3_tellParts_16 : decode cX3_tellParts 16 = .ok (.if_icmp .gt 143, 3) := dk_163 0 143 (dk_at dksX3_tellParts_0 16 rfl rfl)
theorem dX3_tellParts_19 : decode cX3_tellParts 19 = .ok (.iload_n 3, 1) := dk_29 (dk_at dksX3_tellParts_0 19 rfl rfl)
theorem dX3_tellParts_20 : decode cX3_tellParts 20 = .ok (.aload_n 0, 1) := dk_42 (dk_at dksX3_tellParts_0 20 rfl rfl)
theorem dX3_tellParts_21 : decode cX3_tellParts 21 = .ok (.getfield 214, 3) := dk_180 0 214 (dk_at dksX3_tellParts_0 21 rfl rfl)
theorem dX3_tellParts_24 : decode cX3_tellParts 24 = .ok (.if_icmp .ne 7, 3) := dk_160 0 7 (dk_at dksX3_tellParts_1 0 rfl rfl)
theorem dX3_tellParts_27 : decode cX3_tellParts 27 = .ok (.iconst 1, 1) := dk_4 (dk_at dksX3_tellParts_1 3 rfl rfl)
theorem dX3_tellParts_28 : decode cX3_tellParts 28 = .ok (.goto 4, 3) := dk_167 0 4 (dk_at dksX3_tellParts_1 4 rfl rfl)
theorem dX3_tellParts_31 : decode cX3_tellParts 31 = .ok (.iconst 0, 1) := dk_3 (dk_at dksX3_tellParts_1 7 rfl rfl)
theorem dX3_tellParts_32 : decode cX3_tellParts 32 = .ok (.istore 4, 2) := dk_54 4 (dk_at dksX3_tellParts_1 8 rfl rfl)
theorem dX3_tellParts_34 : decode cX3_tellParts 34 = .ok (.iload 4, 2) := dk_21 4 (dk_at dksX3_tellParts_1 10 rfl rfl)
theorem dX3_tellParts_36 : decode cX3_tellParts 36 = .ok (.ifCond .ne 12, 3) := dk_154 0 12 (dk_at dksX3_tellParts_1 12 rfl rfl)
theorem dX3_tellParts_39 : decode cX3_tellParts 39 = .ok (.aload_n 0, 1) := dk_42 (dk_at dksX3_tellParts_1 15 rfl rfl)
theorem dX3_tellParts_40 : decode cX3_tellParts 40 = .ok (.getfield 63, 3) := dk_180 0 63 (dk_at dksX3_tellParts_1 16 rfl rfl)
theorem dX3_tellParts_43 : decode cX3_tellParts 43 = .ok (.iload_n 3, 1) := dk_29 (dk_at dksX3_tellParts_1 19 rfl rfl)
theorem dX3_tellParts_44 : decode cX3_tellParts 44 = .ok (.iaload, 1) := dk_46 (dk_at dksX3_tellParts_1 20 rfl rfl)
theorem dX3_tellParts_45 : decode cX3_tellParts 45 = .ok (.ifCond .lt 108, 3) := dk_155 0 108 (dk_at dksX3_tellParts_1 21 rfl rfl)
theorem dX3_tellParts_48 : decode cX3_tellParts 48 = .ok (.iload 4, 2) := dk_21 4 (dk_at dksX3_tellParts_2 0 rfl rfl)
theorem dX3_tellParts_50 : decode cX3_tellParts 50 = .ok (.ifCond .eq 10, 3) := dk_153 0 10 (dk_at dksX3_tellParts_2 2 rfl rfl)
theorem dX3_tellParts_53 : decode cX3_tellParts 53 = .ok (.aload_n 0, 1) := dk_42 (dk_at dksX3_tellParts_2 5 rfl rfl)
theorem dX3_tellParts_54 : decode cX3_tellParts 54 = .ok (.getfield 217, 3) := dk_180 0 217 (dk_at dksX3_tellParts_2 6 rfl rfl)
theorem dX3_tellParts_57 : decode cX3_tellParts 57 = .ok (.goto 9, 3) := dk_167 0 9 (dk_at dksX3_tellParts_2 9 rfl rfl)
theorem dX3_tellParts_60 : decode cX3_tellParts 60 = .ok (.aload_n 0, 1) := dk_42 (dk_at dksX3_tellParts_2 12 rfl rfl)
theorem dX3_tellParts_61 : decode cX3_tellParts 61 = .ok (.getfield 63, 3) := dk_180 0 63 (dk_at dksX3_tellParts_2 13 rfl rfl)
theorem dX3_tellParts_64 : decode cX3_tellParts 64 = .ok (.iload_n 3, 1) := dk_29 (dk_at dksX3_tellParts_2 16 rfl rfl)
theorem dX3_tellParts_65 : decode cX3_tellParts 65 = .ok (.iaload, 1) := dk_46 (dk_at dksX3_tellParts_2 17 rfl rfl)
theorem dX3_tellParts_66 : decode cX3_tellParts 66 = .ok (.istore 5, 2) := dk_54 5 (dk_at dksX3_tellParts_2 18 rfl rfl)
theorem dX3_tellParts_68 : decode cX3_tellParts 68 = .ok (.iload_n 3, 1) := dk_29 (dk_at dksX3_tellParts_2 20 rfl rfl)
theorem dX3_tellParts_69 : decode cX3_tellParts 69 = .ok (.iload_n 1, 1) := dk_27 (dk_at dksX3_tellParts_2 21 rfl rfl)
theorem dX3_tellParts_70 : decode cX3_tellParts 70 = .ok (.if_icmp .gt 9, 3) := dk_163 0 9 (dk_at dksX3_tellParts_3 0 rfl rfl)
theorem dX3_tellParts_73 : decode cX3_tellParts 73 = .ok (.iload 5, 2) := dk_21 5 (dk_at dksX3_tellParts_3 3 rfl rfl)
theorem dX3_tellParts_75 : decode cX3_tellParts 75 = .ok (.iload_n 2, 1) := dk_28 (dk_at dksX3_tellParts_3 5 rfl rfl)
theorem dX3_tellParts_76 : decode cX3_tellParts 76 = .ok (.if_icmp .le 68, 3) := dk_164 0 68 (dk_at dksX3_tellParts_3 6 rfl rfl)
theorem dX3_tellParts_79 : decode cX3_tellParts 79 = .ok (.aload_n 0, 1) := dk_42 (dk_at dksX3_tellParts_3 9 rfl rfl)
theorem dX3_tellParts_80 : decode cX3_tellParts 80 = .ok (.getfield 69, 3) := dk_180 0 69 (dk_at dksX3_tellParts_3 10 rfl rfl)
theorem dX3_tellParts_83 : decode cX3_tellParts 83 = .ok (.iconst 4, 1) := dk_7 (dk_at dksX3_tellParts_3 13 rfl rfl)
theorem dX3_tellParts_84 : decode cX3_tellParts 84 = .ok (.aload_n 0, 1) := dk_42 (dk_at dksX3_tellParts_3 14 rfl rfl)
theorem dX3_tellParts_85 : decode cX3_tellParts 85 = .ok (.getfield 211, 3) := dk_180 0 211 (dk_at dksX3_tellParts_3 15 rfl rfl)
theorem dX3_tellParts_88 : decode cX3_tellParts 88 = .ok (.imul, 1) := dk_104 (dk_at dksX3_tellParts_3 18 rfl rfl)
theorem dX3_tellParts_89 : decode cX3_tellParts 89 = .ok (.iload_n 1, 1) := dk_27 (dk_at dksX3_tellParts_3 19 rfl rfl)
theorem dX3_tellParts_90 : decode cX3_tellParts 90 = .ok (.iastore, 1) := dk_79 (dk_at dksX3_tellParts_3 20 rfl rfl)
theorem dX3_tellParts_91 : decode cX3_tellParts 91 = .ok (.aload_n 0, 1) := dk_42 (dk_at dksX3_tellParts_3 21 rfl rfl)
theorem dX3_tellParts_92 : decode cX3_tellParts 92 = .ok (.getfield 69, 3) := dk_180 0 69 (dk_at dksX3_tellParts_4 0 rfl rfl)
theorem dX3_tellParts_95 : decode cX3_tellParts 95 = .ok (.iconst 4, 1) := dk_7 (dk_at dksX3_tellParts_4 3 rfl rfl)
theorem dX3_tellParts_96 : decode cX3_tellParts 96 = .ok (.aload_n 0, 1) := dk_42 (dk_at dksX3_tellParts_4 4 rfl rfl)
theorem dX3_tellParts_97 : decode cX3_tellParts 97 = .ok (.getfield 211, 3) := dk_180 0 211 (dk_at dksX3_tellParts_4 5 rfl rfl)
theorem dX3_tellParts_100 : decode cX3_tellParts 100 = .ok (.imul, 1) := dk_104 (dk_at dksX3_tellParts_4 8 rfl rfl)
theorem dX3_tellParts_101 : decode cX3_tellParts 101 = .ok (.iconst 1, 1) := dk_4 (dk_at dksX3_tellParts_4 9 rfl rfl)
theorem dX3_tellParts_102 : decode cX3_tellParts 102 = .ok (.iadd, 1) := dk_96 (dk_at dksX3_tellParts_4 10 rfl rfl)
theorem dX3_tellParts_103 : decode cX3_tellParts 103 = .ok (.iload_n 3, 1) := dk_29 (dk_at dksX3_tellParts_4 11 rfl rfl)
theorem dX3_tellParts_104 : decode cX3_tellParts 104 = .ok (.iastore, 1) := dk_79 (dk_at dksX3_tellParts_4 12 rfl rfl)
theorem dX3_tellParts_105 : decode cX3_tellParts 105 = .ok (.aload_n 0, 1) := dk_42 (dk_at dksX3_tellParts_4 13 rfl rfl)
theorem dX3_tellParts_106 : decode cX3_tellParts 106 = .ok (.getfield 69, 3) := dk_180 0 69 (dk_at dksX3_tellParts_4 14 rfl rfl)
theorem dX3_tellParts_109 : decode cX3_tellParts 109 = .ok (.iconst 4, 1) := dk_7 (dk_at dksX3_tellParts_4 17 rfl rfl)
theorem dX3_tellParts_110 : decode cX3_tellParts 110 = .ok (.aload_n 0, 1) := dk_42 (dk_at dksX3_tellParts_4 18 rfl rfl)
theorem dX3_tellParts_111 : decode cX3_tellParts 111 = .ok (.getfield 211, 3) := dk_180 0 211 (dk_at dksX3_tellParts_4 19 rfl rfl)
theorem dX3_tellParts_114 : decode cX3_tellParts 114 = .ok (.imul, 1) := dk_104 (dk_at dksX3_tellParts_4 22 rfl rfl)
theorem dX3_tellParts_115 : decode cX3_tellParts 115 = .ok (.iconst 2, 1) := dk_5 (dk_at dksX3_tellParts_4 23 rfl rfl)
theorem dX3_tellParts_116 : decode cX3_tellParts 116 = .ok (.iadd, 1) := dk_96 (dk_at dksX3_tellParts_5 0 rfl rfl)
theorem dX3_tellParts_117 : decode cX3_tellParts 117 = .ok (.iload_n 2, 1) := dk_28 (dk_at dksX3_tellParts_5 1 rfl rfl)
theorem dX3_tellParts_118 : decode cX3_tellParts 118 = .ok (.iastore, 1) := dk_79 (dk_at dksX3_tellParts_5 2 rfl rfl)
theorem dX3_tellParts_119 : decode cX3_tellParts 119 = .ok (.aload_n 0, 1) := dk_42 (dk_at dksX3_tellParts_5 3 rfl rfl)
theorem dX3_tellParts_120 : decode cX3_tellParts 120 = .ok (.getfield 69, 3) := dk_180 0 69 (dk_at dksX3_tellParts_5 4 rfl rfl)
theorem dX3_tellParts_123 : decode cX3_tellParts 123 = .ok (.iconst 4, 1) := dk_7 (dk_at dksX3_tellParts_5 7 rfl rfl)
theorem dX3_tellParts_124 : decode cX3_tellParts 124 = .ok (.aload_n 0, 1) := dk_42 (dk_at dksX3_tellParts_5 8 rfl rfl)
theorem dX3_tellParts_125 : decode cX3_tellParts 125 = .ok (.getfield 211, 3) := dk_180 0 211 (dk_at dksX3_tellParts_5 9 rfl rfl)
theorem dX3_tellParts_128 : decode cX3_tellParts 128 = .ok (.imul, 1) := dk_104 (dk_at dksX3_tellParts_5 12 rfl rfl)
theorem dX3_tellParts_129 : decode cX3_tellParts 129 = .ok (.iconst 3, 1) := dk_6 (dk_at dksX3_tellParts_5 13 rfl rfl)
theorem dX3_tellParts_130 : decode cX3_tellParts 130 = .ok (.iadd, 1) := dk_96 (dk_at dksX3_tellParts_5 14 rfl rfl)
theorem dX3_tellParts_131 : decode cX3_tellParts 131 = .ok (.iload 5, 2) := dk_21 5 (dk_at dksX3_tellParts_5 15 rfl rfl)
theorem dX3_tellParts_133 : decode cX3_tellParts 133 = .ok (.iastore, 1) := dk_79 (dk_at dksX3_tellParts_5 17 rfl rfl)
theorem dX3_tellParts_134 : decode cX3_tellParts 134 = .ok (.aload_n 0, 1) := dk_42 (dk_at dksX3_tellParts_5 18 rfl rfl)
theorem dX3_tellParts_135 : decode cX3_tellParts 135 = .ok (.dup, 1) := dk_89 (dk_at dksX3_tellParts_5 19 rfl rfl)
theorem dX3_tellParts_136 : decode cX3_tellParts 136 = .ok (.getfield 211, 3) := dk_180 0 211 (dk_at dksX3_tellParts_5 20 rfl rfl)
theorem dX3_tellParts_139 : decode cX3_tellParts 139 = .ok (.iconst 1, 1) := dk_4 (dk_at dksX3_tellParts_5 23 rfl rfl)
theorem dX3_tellParts_140 : decode cX3_tellParts 140 = .ok (.iadd, 1) := dk_96 (dk_at dksX3_tellParts_6 0 rfl rfl)
theorem dX3_tellParts_141 : decode cX3_tellParts 141 = .ok (.putfield 211, 3) := dk_181 0 211 (dk_at dksX3_tellParts_6 1 rfl rfl)
theorem dX3_tellParts_144 : decode cX3_tellParts 144 = .ok (.iload_n 3, 1) := dk_29 (dk_at dksX3_tellParts_6 4 rfl rfl)
theorem dX3_tellParts_145 : decode cX3_tellParts 145 = .ok (.iconst 1, 1) := dk_4 (dk_at dksX3_tellParts_6 5 rfl rfl)
theorem dX3_tellParts_146 : decode cX3_tellParts 146 = .ok (.iadd, 1) := dk_96 (dk_at dksX3_tellParts_6 6 rfl rfl)
theorem dX3_tellParts_147 : decode cX3_tellParts 147 = .ok (.istore_n 1, 1) := dk_60 (dk_at dksX3_tellParts_6 7 rfl rfl)
theorem dX3_tellParts_148 : decode cX3_tellParts 148 = .ok (.iload 5, 2) := dk_21 5 (dk_at dksX3_tellParts_6 8 rfl rfl)
theorem dX3_tellParts_150 : decode cX3_tellParts 150 = .ok (.iconst 1, 1) := dk_4 (dk_at dksX3_tellParts_6 10 rfl rfl)
theorem dX3_tellParts_151 : decode cX3_tellParts 151 = .ok (.iadd, 1) := dk_96 (dk_at dksX3_tellParts_6 11 rfl rfl)
theorem dX3_tellParts_152 : decode cX3_tellParts 152 = .ok (.istore_n 2, 1) := dk_61 (dk_at dksX3_tellParts_6 12 rfl rfl)
theorem dX3_tellParts_153 : decode cX3_tellParts 153 = .ok (.iinc 3 1, 3) := dk_132 3 1 (dk_at dksX3_tellParts_6 13 rfl rfl)
theorem dX3_tellParts_156 : decode cX3_tellParts 156 = .ok (.goto (-145), 3) := dk_167 255 111 (dk_at dksX3_tellParts_6 16 rfl rfl)
theorem dX3_tellParts_159 : decode cX3_tellParts 159 = .ok (.return_, 1) := dk_177 (dk_at dksX3_tellParts_6 19 rfl rfl)
abbrev cX3_pairMany : ByteArray := prog_22_method_35_code
def yX3_pairMany : MethodName := ⟨RX3, "pairMany", "()I"⟩
def dkwX3_pairMany_1 : List UInt8 := [167, 0, 4, 3, 96, 60, 132, 2, 1, 167, 255, 228, 27, 172]
abbrev dktX3_pairMany_1 : List UInt8 := dkwX3_pairMany_1 ++ []
def dkwX3_pairMany_0 : List UInt8 := [3, 60, 3, 61, 28, 42, 180, 0, 214, 162, 0, 26, 27, 42, 180, 0, 63, 28, 46, 155, 0, 7, 4]
abbrev dktX3_pairMany_0 : List UInt8 := dkwX3_pairMany_0 ++ dktX3_pairMany_1
theorem dksX3_pairMany_0 : cX3_pairMany.data.toList.drop 0 = dktX3_pairMany_0 := by decide +kernel
theorem dksX3_pairMany_1 : cX3_pairMany.data.toList.drop 23 = dktX3_pairMany_1 := dk_seg dksX3_pairMany_0 23 rfl rfl
theorem dX3_pairMany_0 : decode cX3_pairMany 0 = .ok (.iconst 0, 1) := dk_3 (dk_at dksX3_pairMany_0 0 rfl rfl)
theorem dX3_pairMany_1 : decode cX3_pairMany 1 = .ok (.istore_n 1, 1) := dk_60 (dk_at dksX3_pairMany_0 1 rfl rfl)
theorem dX3_pairMany_2 : decode cX3_pairMany 2 = .ok (.iconst 0, 1) := dk_3 (dk_at dksX3_pairMany_0 2 rfl rfl)
theorem dX3_pairMany_3 : decode cX3_pairMany 3 = .ok (.istore_n 2, 1) := dk_61 (dk_at dksX3_pairMany_0 3 rfl rfl)
theorem dX3_pairMany_4 : decode cX3_pairMany 4 = .ok (.iload_n 2, 1) := dk_28 (dk_at dksX3_pairMany_0 4 rfl rfl)
theorem dX3_pairMany_5 : decode cX3_pairMany 5 = .ok (.aload_n 0, 1) := dk_42 (dk_at dksX3_pairMany_0 5 rfl rfl)
theorem dX3_pairMany_6 : decode cX3_pairMany 6 = .ok (.getfield 214, 3) := dk_180 0 214 (dk_at dksX3_pairMany_0 6 rfl rfl)
theorem dX3_pairMany_9 : decode cX3_pairMany 9 = .ok (.if_icmp .ge 26, 3) := dk_162 0 26 (dk_at dksX3_pairMany_0 9 rfl rfl)
theorem dX3_pairMany_12 : decode cX3_pairMany 12 = .ok (.iload_n 1, 1) := dk_27 (dk_at dksX3_pairMany_0 12 rfl rfl)
theorem dX3_pairMany_13 : decode cX3_pairMany 13 = .ok (.aload_n 0, 1) := dk_42 (dk_at dksX3_pairMany_0 13 rfl rfl)
theorem dX3_pairMany_14 : decode cX3_pairMany 14 = .ok (.getfield 63, 3) := dk_180 0 63 (dk_at dksX3_pairMany_0 14 rfl rfl)
theorem dX3_pairMany_17 : decode cX3_pairMany 17 = .ok (.iload_n 2, 1) := dk_28 (dk_at dksX3_pairMany_0 17 rfl rfl)
theorem dX3_pairMany_18 : decode cX3_pairMany 18 = .ok (.iaload, 1) := dk_46 (dk_at dksX3_pairMany_0 18 rfl rfl)
theorem dX3_pairMany_19 : decode cX3_pairMany 19 = .ok (.ifCond .lt 7, 3) := dk_155 0 7 (dk_at dksX3_pairMany_0 19 rfl rfl)
theorem dX3_pairMany_22 : decode cX3_pairMany 22 = .ok (.iconst 1, 1) := dk_4 (dk_at dksX3_pairMany_0 22 rfl rfl)
theorem dX3_pairMany_23 : decode cX3_pairMany 23 = .ok (.goto 4, 3) := dk_167 0 4 (dk_at dksX3_pairMany_1 0 rfl rfl)
theorem dX3_pairMany_26 : decode cX3_pairMany 26 = .ok (.iconst 0, 1) := dk_3 (dk_at dksX3_pairMany_1 3 rfl rfl)
theorem dX3_pairMany_27 : decode cX3_pairMany 27 = .ok (.iadd, 1) := dk_96 (dk_at dksX3_pairMany_1 4 rfl rfl)
theorem dX3_pairMany_28 : decode cX3_pairMany 28 = .ok (.istore_n 1, 1) := dk_60 (dk_at dksX3_pairMany_1 5 rfl rfl)
theorem dX3_pairMany_29 : decode cX3_pairMany 29 = .ok (.iinc 2 1, 3) := dk_132 2 1 (dk_at dksX3_pairMany_1 6 rfl rfl)
theorem dX3_pairMany_32 : decode cX3_pairMany 32 = .ok (.goto (-28), 3) := dk_167 255 228 (dk_at dksX3_pairMany_1 9 rfl rfl)
theorem dX3_pairMany_35 : decode cX3_pairMany 35 = .ok (.iload_n 1, 1) := dk_27 (dk_at dksX3_pairMany_1 12 rfl rfl)
theorem dX3_pairMany_36 : decode cX3_pairMany 36 = .ok (.ireturn, 1) := dk_172 (dk_at dksX3_pairMany_1 13 rfl rfl)
abbrev cX3_partner : ByteArray := prog_22_method_37_code
def yX3_partner : MethodName := ⟨RX3, "partner", "(I)I"⟩
def dkwX3_partner_1 : List UInt8 := [153, 0, 16, 42, 42, 180, 0, 63, 27, 46, 182, 0, 138, 167, 0, 8, 42, 5, 182, 0, 130, 172]
abbrev dktX3_partner_1 : List UInt8 := dkwX3_partner_1 ++ []
def dkwX3_partner_0 : List UInt8 := [42, 180, 0, 220, 154, 0, 9, 42, 4, 182, 0, 130, 172, 27, 3, 42, 180, 0, 214, 4, 100, 184, 0, 119]
abbrev dktX3_partner_0 : List UInt8 := dkwX3_partner_0 ++ dktX3_partner_1
theorem dksX3_partner_0 : cX3_partner.data.toList.drop 0 = dktX3_partner_0 := by decide +kernel
theorem dksX3_partner_1 : cX3_partner.data.toList.drop 24 = dktX3_partner_1 := dk_seg dksX3_partner_0 24 rfl rfl
theorem dX3_partner_0 : decode cX3_partner 0 = .ok (.aload_n 0, 1) := dk_42 (dk_at dksX3_partner_0 0 rfl rfl)
theorem dX3_partner_1 : decode cX3_partner 1 = .ok (.getfield 220, 3) := dk_180 0 220 (dk_at dksX3_partner_0 1 rfl rfl)
theorem dX3_partner_4 : decode cX3_partner 4 = .ok (.ifCond .ne 9, 3) := dk_154 0 9 (dk_at dksX3_partner_0 4 rfl rfl)
theorem dX3_partner_7 : decode cX3_partner 7 = .ok (.aload_n 0, 1) := dk_42 (dk_at dksX3_partner_0 7 rfl rfl)
theorem dX3_partner_8 : decode cX3_partner 8 = .ok (.iconst 1, 1) := dk_4 (dk_at dksX3_partner_0 8 rfl rfl)
theorem dX3_partner_9 : decode cX3_partner 9 = .ok (.invokevirtual 130, 3) := dk_182 0 130 (dk_at dksX3_partner_0 9 rfl rfl)
theorem dX3_partner_12 : decode cX3_partner 12 = .ok (.ireturn, 1) := dk_172 (dk_at dksX3_partner_0 12 rfl rfl)
theorem dX3_partner_13 : decode cX3_partner 13 = .ok (.iload_n 1, 1) := dk_27 (dk_at dksX3_partner_0 13 rfl rfl)
theorem dX3_partner_14 : decode cX3_partner 14 = .ok (.iconst 0, 1) := dk_3 (dk_at dksX3_partner_0 14 rfl rfl)
theorem dX3_partner_15 : decode cX3_partner 15 = .ok (.aload_n 0, 1) := dk_42 (dk_at dksX3_partner_0 15 rfl rfl)
theorem dX3_partner_16 : decode cX3_partner 16 = .ok (.getfield 214, 3) := dk_180 0 214 (dk_at dksX3_partner_0 16 rfl rfl)
theorem dX3_partner_19 : decode cX3_partner 19 = .ok (.iconst 1, 1) := dk_4 (dk_at dksX3_partner_0 19 rfl rfl)
theorem dX3_partner_20 : decode cX3_partner 20 = .ok (.isub, 1) := dk_100 (dk_at dksX3_partner_0 20 rfl rfl)
theorem dX3_partner_21 : decode cX3_partner 21 = .ok (.invokestatic 119, 3) := dk_184 0 119 (dk_at dksX3_partner_0 21 rfl rfl)
theorem dX3_partner_24 : decode cX3_partner 24 = .ok (.ifCond .eq 16, 3) := dk_153 0 16 (dk_at dksX3_partner_1 0 rfl rfl)
theorem dX3_partner_27 : decode cX3_partner 27 = .ok (.aload_n 0, 1) := dk_42 (dk_at dksX3_partner_1 3 rfl rfl)
theorem dX3_partner_28 : decode cX3_partner 28 = .ok (.aload_n 0, 1) := dk_42 (dk_at dksX3_partner_1 4 rfl rfl)
theorem dX3_partner_29 : decode cX3_partner 29 = .ok (.getfield 63, 3) := dk_180 0 63 (dk_at dksX3_partner_1 5 rfl rfl)
theorem dX3_partner_32 : decode cX3_partner 32 = .ok (.iload_n 1, 1) := dk_27 (dk_at dksX3_partner_1 8 rfl rfl)
theorem dX3_partner_33 : decode cX3_partner 33 = .ok (.iaload, 1) := dk_46 (dk_at dksX3_partner_1 9 rfl rfl)
theorem dX3_partner_34 : decode cX3_partner 34 = .ok (.invokevirtual 138, 3) := dk_182 0 138 (dk_at dksX3_partner_1 10 rfl rfl)
theorem dX3_partner_37 : decode cX3_partner 37 = .ok (.goto 8, 3) := dk_167 0 8 (dk_at dksX3_partner_1 13 rfl rfl)
theorem dX3_partner_40 : decode cX3_partner 40 = .ok (.aload_n 0, 1) := dk_42 (dk_at dksX3_partner_1 16 rfl rfl)
theorem dX3_partner_41 : decode cX3_partner 41 = .ok (.iconst 2, 1) := dk_5 (dk_at dksX3_partner_1 17 rfl rfl)
theorem dX3_partner_42 : decode cX3_partner 42 = .ok (.invokevirtual 130, 3) := dk_182 0 130 (dk_at dksX3_partner_1 18 rfl rfl)
theorem dX3_partner_45 : decode cX3_partner 45 = .ok (.ireturn, 1) := dk_172 (dk_at dksX3_partner_1 21 rfl rfl)
abbrev cX3_anchors : ByteArray := prog_22_method_38_code
def yX3_anchors : MethodName := ⟨RX3, "anchors", "()I"⟩
def dkwX3_anchors_0 : List UInt8 := [42, 180, 0, 220, 153, 0, 14, 42, 42, 180, 0, 227, 182, 0, 138, 167, 0, 8, 42, 4, 182, 0, 130, 172]
abbrev dktX3_anchors_0 : List UInt8 := dkwX3_anchors_0 ++ []
theorem dksX3_anchors_0 : cX3_anchors.data.toList.drop 0 = dktX3_anchors_0 := by decide +kernel
theorem dX3_anchors_0 : decode cX3_anchors 0 = .ok (.aload_n 0, 1) := dk_42 (dk_at dksX3_anchors_0 0 rfl rfl)
theorem dX3_anchors_1 : decode cX3_anchors 1 = .ok (.getfield 220, 3) := dk_180 0 220 (dk_at dksX3_anchors_0 1 rfl rfl)
theorem dX3_anchors_4 : decode cX3_anchors 4 = .ok (.ifCond .eq 14, 3) := dk_153 0 14 (dk_at dksX3_anchors_0 4 rfl rfl)
theorem dX3_anchors_7 : decode cX3_anchors 7 = .ok (.aload_n 0, 1) := dk_42 (dk_at dksX3_anchors_0 7 rfl rfl)
theorem dX3_anchors_8 : decode cX3_anchors 8 = .ok (.aload_n 0, 1) := dk_42 (dk_at dksX3_anchors_0 8 rfl rfl)
theorem dX3_anchors_9 : decode cX3_anchors 9 = .ok (.getfield 227, 3) := dk_180 0 227 (dk_at dksX3_anchors_0 9 rfl rfl)
theorem dX3_anchors_12 : decode cX3_anchors 12 = .ok (.invokevirtual 138, 3) := dk_182 0 138 (dk_at dksX3_anchors_0 12 rfl rfl)
theorem dX3_anchors_15 : decode cX3_anchors 15 = .ok (.goto 8, 3) := dk_167 0 8 (dk_at dksX3_anchors_0 15 rfl rfl)
theorem dX3_anchors_18 : decode cX3_anchors 18 = .ok (.aload_n 0, 1) := dk_42 (dk_at dksX3_anchors_0 18 rfl rfl)
theorem dX3_anchors_19 : decode cX3_anchors 19 = .ok (.iconst 1, 1) := dk_4 (dk_at dksX3_anchors_0 19 rfl rfl)
theorem dX3_anchors_20 : decode cX3_anchors 20 = .ok (.invokevirtual 130, 3) := dk_182 0 130 (dk_at dksX3_anchors_0 20 rfl rfl)
theorem dX3_anchors_23 : decode cX3_anchors 23 = .ok (.ireturn, 1) := dk_172 (dk_at dksX3_anchors_0 23 rfl rfl)
abbrev cX3_differences : ByteArray := prog_22_method_39_code
def yX3_differences : MethodName := ⟨RX3, "differences", "()I"⟩
def dkwX3_differences_0 : List UInt8 := [42, 180, 0, 220, 153, 0, 14, 42, 42, 180, 0, 211, 182, 0, 138, 167, 0, 8, 42, 4, 182, 0, 130, 172]
abbrev dktX3_differences_0 : List UInt8 := dkwX3_differences_0 ++ []
theorem dksX3_differences_0 : cX3_differences.data.toList.drop 0 = dktX3_differences_0 := by decide +kernel
theorem dX3_differences_0 : decode cX3_differences 0 = .ok (.aload_n 0, 1) := dk_42 (dk_at dksX3_differences_0 0 rfl rfl)
theorem dX3_differences_1 : decode cX3_differences 1 = .ok (.getfield 220, 3) := dk_180 0 220 (dk_at dksX3_differences_0 1 rfl rfl)
theorem dX3_differences_4 : decode cX3_differences 4 = .ok (.ifCond .eq 14, 3) := dk_153 0 14 (dk_at dksX3_differences_0 4 rfl rfl)
theorem dX3_differences_7 : decode cX3_differences 7 = .ok (.aload_n 0, 1) := dk_42 (dk_at dksX3_differences_0 7 rfl rfl)
theorem dX3_differences_8 : decode cX3_differences 8 = .ok (.aload_n 0, 1) := dk_42 (dk_at dksX3_differences_0 8 rfl rfl)
theorem dX3_differences_9 : decode cX3_differences 9 = .ok (.getfield 211, 3) := dk_180 0 211 (dk_at dksX3_differences_0 9 rfl rfl)
theorem dX3_differences_12 : decode cX3_differences 12 = .ok (.invokevirtual 138, 3) := dk_182 0 138 (dk_at dksX3_differences_0 12 rfl rfl)
theorem dX3_differences_15 : decode cX3_differences 15 = .ok (.goto 8, 3) := dk_167 0 8 (dk_at dksX3_differences_0 15 rfl rfl)
theorem dX3_differences_18 : decode cX3_differences 18 = .ok (.aload_n 0, 1) := dk_42 (dk_at dksX3_differences_0 18 rfl rfl)
theorem dX3_differences_19 : decode cX3_differences 19 = .ok (.iconst 1, 1) := dk_4 (dk_at dksX3_differences_0 19 rfl rfl)
theorem dX3_differences_20 : decode cX3_differences 20 = .ok (.invokevirtual 130, 3) := dk_182 0 130 (dk_at dksX3_differences_0 20 rfl rfl)
theorem dX3_differences_23 : decode cX3_differences 23 = .ok (.ireturn, 1) := dk_172 (dk_at dksX3_differences_0 23 rfl rfl)
abbrev cX3_difference : ByteArray := prog_22_method_40_code
def yX3_difference : MethodName := ⟨RX3, "difference", "(II)I"⟩
def dkwX3_difference_2 : List UInt8 := [27, 104, 28, 96, 46, 182, 0, 138, 167, 0, 8, 42, 6, 182, 0, 130, 172]
abbrev dktX3_difference_2 : List UInt8 := dkwX3_difference_2 ++ []
def dkwX3_difference_1 : List UInt8 := [154, 0, 9, 42, 5, 182, 0, 130, 172, 28, 3, 6, 184, 0, 119, 153, 0, 20, 42, 42, 180, 0, 69, 7]
abbrev dktX3_difference_1 : List UInt8 := dkwX3_difference_1 ++ dktX3_difference_2
def dkwX3_difference_0 : List UInt8 := [42, 180, 0, 220, 154, 0, 9, 42, 4, 182, 0, 130, 172, 27, 3, 42, 180, 0, 211, 4, 100, 184, 0, 119]
abbrev dktX3_difference_0 : List UInt8 := dkwX3_difference_0 ++ dktX3_difference_1
theorem dksX3_difference_0 : cX3_difference.data.toList.drop 0 = dktX3_difference_0 := by decide +kernel
theorem dksX3_difference_1 : cX3_difference.data.toList.drop 24 = dktX3_difference_1 := dk_seg dksX3_difference_0 24 rfl rfl
theorem dksX3_difference_2 : cX3_difference.data.toList.drop 48 = dktX3_difference_2 := dk_seg dksX3_difference_1 24 rfl rfl
theorem dX3_difference_0 : decode cX3_difference 0 = .ok (.aload_n 0, 1) := dk_42 (dk_at dksX3_difference_0 0 rfl rfl)
theorem dX3_difference_1 : decode cX3_difference 1 = .ok (.getfield 220, 3) := dk_180 0 220 (dk_at dksX3_difference_0 1 rfl rfl)
theorem dX3_difference_4 : decode cX3_difference 4 = .ok (.ifCond .ne 9, 3) := dk_154 0 9 (dk_at dksX3_difference_0 4 rfl rfl)
theorem dX3_difference_7 : decode cX3_difference 7 = .ok (.aload_n 0, 1) := dk_42 (dk_at dksX3_difference_0 7 rfl rfl)
theorem dX3_difference_8 : decode cX3_difference 8 = .ok (.iconst 1, 1) := dk_4 (dk_at dksX3_difference_0 8 rfl rfl)
theorem dX3_difference_9 : decode cX3_difference 9 = .ok (.invokevirtual 130, 3) := dk_182 0 130 (dk_at dksX3_difference_0 9 rfl rfl)
theorem dX3_difference_12 : decode cX3_difference 12 = .ok (.ireturn, 1) := dk_172 (dk_at dksX3_difference_0 12 rfl rfl)
theorem dX3_difference_13 : decode cX3_difference 13 = .ok (.iload_n 1, 1) := dk_27 (dk_at dksX3_difference_0 13 rfl rfl)
theorem dX3_difference_14 : decode cX3_difference 14 = .ok (.iconst 0, 1) := dk_3 (dk_at dksX3_difference_0 14 rfl rfl)
theorem dX3_difference_15 : decode cX3_difference 15 = .ok (.aload_n 0, 1) := dk_42 (dk_at dksX3_difference_0 15 rfl rfl)
theorem dX3_difference_16 : decode cX3_difference 16 = .ok (.getfield 211, 3) := dk_180 0 211 (dk_at dksX3_difference_0 16 rfl rfl)
theorem dX3_difference_19 : decode cX3_difference 19 = .ok (.iconst 1, 1) := dk_4 (dk_at dksX3_difference_0 19 rfl rfl)
theorem dX3_difference_20 : decode cX3_difference 20 = .ok (.isub, 1) := dk_100 (dk_at dksX3_difference_0 20 rfl rfl)
theorem dX3_difference_21 : decode cX3_difference 21 = .ok (.invokestatic 119, 3) := dk_184 0 119 (dk_at dksX3_difference_0 21 rfl rfl)
theorem dX3_difference_24 : decode cX3_difference 24 = .ok (.ifCond .ne 9, 3) := dk_154 0 9 (dk_at dksX3_difference_1 0 rfl rfl)
theorem dX3_difference_27 : decode cX3_difference 27 = .ok (.aload_n 0, 1) := dk_42 (dk_at dksX3_difference_1 3 rfl rfl)
theorem dX3_difference_28 : decode cX3_difference 28 = .ok (.iconst 2, 1) := dk_5 (dk_at dksX3_difference_1 4 rfl rfl)
theorem dX3_difference_29 : decode cX3_difference 29 = .ok (.invokevirtual 130, 3) := dk_182 0 130 (dk_at dksX3_difference_1 5 rfl rfl)
theorem dX3_difference_32 : decode cX3_difference 32 = .ok (.ireturn, 1) := dk_172 (dk_at dksX3_difference_1 8 rfl rfl)
theorem dX3_difference_33 : decode cX3_difference 33 = .ok (.iload_n 2, 1) := dk_28 (dk_at dksX3_difference_1 9 rfl rfl)
theorem dX3_difference_34 : decode cX3_difference 34 = .ok (.iconst 0, 1) := dk_3 (dk_at dksX3_difference_1 10 rfl rfl)
theorem dX3_difference_35 : decode cX3_difference 35 = .ok (.iconst 3, 1) := dk_6 (dk_at dksX3_difference_1 11 rfl rfl)
theorem dX3_difference_36 : decode cX3_difference 36 = .ok (.invokestatic 119, 3) := dk_184 0 119 (dk_at dksX3_difference_1 12 rfl rfl)
theorem dX3_difference_39 : decode cX3_difference 39 = .ok (.ifCond .eq 20, 3) := dk_153 0 20 (dk_at dksX3_difference_1 15 rfl rfl)
theorem dX3_difference_42 : decode cX3_difference 42 = .ok (.aload_n 0, 1) := dk_42 (dk_at dksX3_difference_1 18 rfl rfl)
theorem dX3_difference_43 : decode cX3_difference 43 = .ok (.aload_n 0, 1) := dk_42 (dk_at dksX3_difference_1 19 rfl rfl)
theorem dX3_difference_44 : decode cX3_difference 44 = .ok (.getfield 69, 3) := dk_180 0 69 (dk_at dksX3_difference_1 20 rfl rfl)
theorem dX3_difference_47 : decode cX3_difference 47 = .ok (.iconst 4, 1) := dk_7 (dk_at dksX3_difference_1 23 rfl rfl)
theorem dX3_difference_48 : decode cX3_difference 48 = .ok (.iload_n 1, 1) := dk_27 (dk_at dksX3_difference_2 0 rfl rfl)
theorem dX3_difference_49 : decode cX3_difference 49 = .ok (.imul, 1) := dk_104 (dk_at dksX3_difference_2 1 rfl rfl)
theorem dX3_difference_50 : decode cX3_difference 50 = .ok (.iload_n 2, 1) := dk_28 (dk_at dksX3_difference_2 2 rfl rfl)
theorem dX3_difference_51 : decode cX3_difference 51 = .ok (.iadd, 1) := dk_96 (dk_at dksX3_difference_2 3 rfl rfl)
theorem dX3_difference_52 : decode cX3_difference 52 = .ok (.iaload, 1) := dk_46 (dk_at dksX3_difference_2 4 rfl rfl)
theorem dX3_difference_53 : decode cX3_difference 53 = .ok (.invokevirtual 138, 3) := dk_182 0 138 (dk_at dksX3_difference_2 5 rfl rfl)
theorem dX3_difference_56 : decode cX3_difference 56 = .ok (.goto 8, 3) := dk_167 0 8 (dk_at dksX3_difference_2 8 rfl rfl)
theorem dX3_difference_59 : decode cX3_difference 59 = .ok (.aload_n 0, 1) := dk_42 (dk_at dksX3_difference_2 11 rfl rfl)
theorem dX3_difference_60 : decode cX3_difference 60 = .ok (.iconst 3, 1) := dk_6 (dk_at dksX3_difference_2 12 rfl rfl)
theorem dX3_difference_61 : decode cX3_difference 61 = .ok (.invokevirtual 130, 3) := dk_182 0 130 (dk_at dksX3_difference_2 13 rfl rfl)
theorem dX3_difference_64 : decode cX3_difference 64 = .ok (.ireturn, 1) := dk_172 (dk_at dksX3_difference_2 16 rfl rfl)
abbrev cX3_step : ByteArray := prog_22_method_41_code
def yX3_step : MethodName := ⟨RX3, "step", "(I)I"⟩
def dkwX3_step_9 : List UInt8 := [167, 0, 4, 4, 96, 62, 167, 255, 58, 42, 5, 182, 0, 130, 172]
abbrev dktX3_step_9 : List UInt8 := dkwX3_step_9 ++ []
def dkwX3_step_8 : List UInt8 := [154, 0, 8, 21, 6, 153, 0, 7, 4, 167, 0, 4, 3, 96, 54, 4, 29, 21, 6, 153, 0, 7, 3]
abbrev dktX3_step_8 : List UInt8 := dkwX3_step_8 ++ dktX3_step_9
def dkwX3_step_7 : List UInt8 := [46, 96, 54, 7, 28, 27, 160, 0, 10, 42, 21, 7, 182, 0, 138, 172, 132, 2, 1, 21, 4, 21, 5]
abbrev dktX3_step_7 : List UInt8 := dkwX3_step_7 ++ dktX3_step_8
def dkwX3_step_6 : List UInt8 := [153, 0, 16, 16, 100, 42, 180, 0, 57, 21, 4, 46, 96, 167, 0, 13, 17, 0, 200, 42, 180, 0, 60, 29]
abbrev dktX3_step_6 : List UInt8 := dkwX3_step_6 ++ dktX3_step_7
def dkwX3_step_5 : List UInt8 := [167, 0, 4, 3, 54, 6, 21, 5, 153, 0, 13, 42, 180, 0, 57, 21, 4, 46, 167, 0, 31, 21, 6]
abbrev dktX3_step_5 : List UInt8 := dkwX3_step_5 ++ dktX3_step_6
def dkwX3_step_4 : List UInt8 := [180, 0, 63, 21, 4, 42, 180, 0, 214, 162, 0, 8, 21, 4, 167, 0, 4, 3, 46, 2, 160, 0, 7, 4]
abbrev dktX3_step_4 : List UInt8 := dkwX3_step_4 ++ dktX3_step_5
def dkwX3_step_3 : List UInt8 := [42, 180, 0, 217, 162, 0, 7, 4, 167, 0, 4, 3, 54, 5, 21, 4, 42, 180, 0, 214, 162, 0, 31, 42]
abbrev dktX3_step_3 : List UInt8 := dkwX3_step_3 ++ dktX3_step_4
def dkwX3_step_2 : List UInt8 := [180, 0, 63, 21, 4, 42, 180, 0, 214, 162, 0, 8, 21, 4, 167, 0, 4, 3, 46, 29, 160, 0, 15, 29]
abbrev dktX3_step_2 : List UInt8 := dkwX3_step_2 ++ dktX3_step_3
def dkwX3_step_1 : List UInt8 := [180, 0, 214, 161, 0, 11, 29, 42, 180, 0, 217, 162, 0, 187, 21, 4, 42, 180, 0, 214, 162, 0, 39, 42]
abbrev dktX3_step_1 : List UInt8 := dkwX3_step_1 ++ dktX3_step_2
def dkwX3_step_0 : List UInt8 := [42, 180, 0, 220, 154, 0, 9, 42, 4, 182, 0, 130, 172, 3, 61, 3, 62, 3, 54, 4, 21, 4, 42]
abbrev dktX3_step_0 : List UInt8 := dkwX3_step_0 ++ dktX3_step_1
theorem dksX3_step_0 : cX3_step.data.toList.drop 0 = dktX3_step_0 := by decide +kernel
theorem dksX3_step_1 : cX3_step.data.toList.drop 23 = dktX3_step_1 := dk_seg dksX3_step_0 23 rfl rfl
theorem dksX3_step_2 : cX3_step.data.toList.drop 47 = dktX3_step_2 := dk_seg dksX3_step_1 24 rfl rfl
theorem dksX3_step_3 : cX3_step.data.toList.drop 71 = dktX3_step_3 := dk_seg dksX3_step_2 24 rfl rfl
theorem dksX3_step_4 : cX3_step.data.toList.drop 95 = dktX3_step_4 := dk_seg dksX3_step_3 24 rfl rfl
theorem dksX3_step_5 : cX3_step.data.toList.drop 119 = dktX3_step_5 := dk_seg dksX3_step_4 24 rfl rfl
theorem dksX3_step_6 : cX3_step.data.toList.drop 142 = dktX3_step_6 := dk_seg dksX3_step_5 23 rfl rfl
theorem dksX3_step_7 : cX3_step.data.toList.drop 166 = dktX3_step_7 := dk_seg dksX3_step_6 24 rfl rfl
theorem dksX3_step_8 : cX3_step.data.toList.drop 189 = dktX3_step_8 := dk_seg dksX3_step_7 23 rfl rfl
theorem dksX3_step_9 : cX3_step.data.toList.drop 212 = dktX3_step_9 := dk_seg dksX3_step_8 23 rfl rfl
theorem dX3_step_0 : decode cX3_step 0 = .ok (.aload_n 0, 1) := dk_42 (dk_at dksX3_step_0 0 rfl rfl)
theorem dX3_step_1 : decode cX3_step 1 = .ok (.getfield 220, 3) := dk_180 0 220 (dk_at dksX3_step_0 1 rfl rfl)
theorem dX3_step_4 : decode cX3_step 4 = .ok (.ifCond .ne 9, 3) := dk_154 0 9 (dk_at dksX3_step_0 4 rfl rfl)
theorem dX3_step_7 : decode cX3_step 7 = .ok (.aload_n 0, 1) := dk_42 (dk_at dksX3_step_0 7 rfl rfl)
theorem dX3_step_8 : decode cX3_step 8 = .ok (.iconst 1, 1) := dk_4 (dk_at dksX3_step_0 8 rfl rfl)
theorem dX3_step_9 : decode cX3_step 9 = .ok (.invokevirtual 130, 3) := dk_182 0 130 (dk_at dksX3_step_0 9 rfl rfl)
theorem dX3_step_12 : decode cX3_step 12 = .ok (.ireturn, 1) := dk_172 (dk_at dksX3_step_0 12 rfl rfl)
theorem dX3_step_13 : decode cX3_step 13 = .ok (.iconst 0, 1) := dk_3 (dk_at dksX3_step_0 13 rfl rfl)
theorem dX3_step_14 : decode cX3_step 14 = .ok (.istore_n 2, 1) := dk_61 (dk_at dksX3_step_0 14 rfl rfl)
theorem dX3_step_15 : decode cX3_step 15 = .ok (.iconst 0, 1) := dk_3 (dk_at dksX3_step_0 15 rfl rfl)
theorem dX3_step_16 : decode cX3_step 16 = .ok (.istore_n 3, 1) := dk_62 (dk_at dksX3_step_0 16 rfl rfl)
theorem dX3_step_17 : decode cX3_step 17 = .ok (.iconst 0, 1) := dk_3 (dk_at dksX3_step_0 17 rfl rfl)
theorem dX3_step_18 : decode cX3_step 18 = .ok (.istore 4, 2) := dk_54 4 (dk_at dksX3_step_0 18 rfl rfl)
theorem dX3_step_20 : decode cX3_step 20 = .ok (.iload 4, 2) := dk_21 4 (dk_at dksX3_step_0 20 rfl rfl)
theorem dX3_step_22 : decode cX3_step 22 = .ok (.aload_n 0, 1) := dk_42 (dk_at dksX3_step_0 22 rfl rfl)
theorem dX3_step_23 : decode cX3_step 23 = .ok (.getfield 214, 3) := dk_180 0 214 (dk_at dksX3_step_1 0 rfl rfl)
theorem dX3_step_26 : decode cX3_step 26 = .ok (.if_icmp .lt 11, 3) := dk_161 0 11 (dk_at dksX3_step_1 3 rfl rfl)
theorem dX3_step_29 : decode cX3_step 29 = .ok (.iload_n 3, 1) := dk_29 (dk_at dksX3_step_1 6 rfl rfl)
theorem dX3_step_30 : decode cX3_step 30 = .ok (.aload_n 0, 1) := dk_42 (dk_at dksX3_step_1 7 rfl rfl)
theorem dX3_step_31 : decode cX3_step 31 = .ok (.getfield 217, 3) := dk_180 0 217 (dk_at dksX3_step_1 8 rfl rfl)
theorem dX3_step_34 : decode cX3_step 34 = .ok (.if_icmp .ge 187, 3) := dk_162 0 187 (dk_at dksX3_step_1 11 rfl rfl)
theorem dX3_step_37 : decode cX3_step 37 = .ok (.iload 4, 2) := dk_21 4 (dk_at dksX3_step_1 14 rfl rfl)
theorem dX3_step_39 : decode cX3_step 39 = .ok (.aload_n 0, 1) := dk_42 (dk_at dksX3_step_1 16 rfl rfl)
theorem dX3_step_40 : decode cX3_step 40 = .ok (.getfield 214, 3) := dk_180 0 214 (dk_at dksX3_step_1 17 rfl rfl)
theorem dX3_step_43 : decode cX3_step 43 = .ok (.if_icmp .ge 39, 3) := dk_162 0 39 (dk_at dksX3_step_1 20 rfl rfl)
theorem dX3_step_46 : decode cX3_step 46 = .ok (.aload_n 0, 1) := dk_42 (dk_at dksX3_step_1 23 rfl rfl)
theorem dX3_step_47 : decode cX3_step 47 = .ok (.getfield 63, 3) := dk_180 0 63 (dk_at dksX3_step_2 0 rfl rfl)
theorem dX3_step_50 : decode cX3_step 50 = .ok (.iload 4, 2) := dk_21 4 (dk_at dksX3_step_2 3 rfl rfl)
theorem dX3_step_52 : decode cX3_step 52 = .ok (.aload_n 0, 1) := dk_42 (dk_at dksX3_step_2 5 rfl rfl)
theorem dX3_step_53 : decode cX3_step 53 = .ok (.getfield 214, 3) := dk_180 0 214 (dk_at dksX3_step_2 6 rfl rfl)
theorem dX3_step_56 : decode cX3_step 56 = .ok (.if_icmp .ge 8, 3) := dk_162 0 8 (dk_at dksX3_step_2 9 rfl rfl)
theorem dX3_step_59 : decode cX3_step 59 = .ok (.iload 4, 2) := dk_21 4 (dk_at dksX3_step_2 12 rfl rfl)
theorem dX3_step_61 : decode cX3_step 61 = .ok (.goto 4, 3) := dk_167 0 4 (dk_at dksX3_step_2 14 rfl rfl)
theorem dX3_step_64 : decode cX3_step 64 = .ok (.iconst 0, 1) := dk_3 (dk_at dksX3_step_2 17 rfl rfl)
theorem dX3_step_65 : decode cX3_step 65 = .ok (.iaload, 1) := dk_46 (dk_at dksX3_step_2 18 rfl rfl)
theorem dX3_step_66 : decode cX3_step 66 = .ok (.iload_n 3, 1) := dk_29 (dk_at dksX3_step_2 19 rfl rfl)
theorem dX3_step_67 : decode cX3_step 67 = .ok (.if_icmp .ne 15, 3) := dk_160 0 15 (dk_at dksX3_step_2 20 rfl rfl)
theorem dX3_step_70 : decode cX3_step 70 = .ok (.iload_n 3, 1) := dk_29 (dk_at dksX3_step_2 23 rfl rfl)
theorem dX3_step_71 : decode cX3_step 71 = .ok (.aload_n 0, 1) := dk_42 (dk_at dksX3_step_3 0 rfl rfl)
theorem dX3_step_72 : decode cX3_step 72 = .ok (.getfield 217, 3) := dk_180 0 217 (dk_at dksX3_step_3 1 rfl rfl)
theorem dX3_step_75 : decode cX3_step 75 = .ok (.if_icmp .ge 7, 3) := dk_162 0 7 (dk_at dksX3_step_3 4 rfl rfl)
theorem dX3_step_78 : decode cX3_step 78 = .ok (.iconst 1, 1) := dk_4 (dk_at dksX3_step_3 7 rfl rfl)
theorem dX3_step_79 : decode cX3_step 79 = .ok (.goto 4, 3) := dk_167 0 4 (dk_at dksX3_step_3 8 rfl rfl)
theorem dX3_step_82 : decode cX3_step 82 = .ok (.iconst 0, 1) := dk_3 (dk_at dksX3_step_3 11 rfl rfl)
theorem dX3_step_83 : decode cX3_step 83 = .ok (.istore 5, 2) := dk_54 5 (dk_at dksX3_step_3 12 rfl rfl)
theorem dX3_step_85 : decode cX3_step 85 = .ok (.iload 4, 2) := dk_21 4 (dk_at dksX3_step_3 14 rfl rfl)
theorem dX3_step_87 : decode cX3_step 87 = .ok (.aload_n 0, 1) := dk_42 (dk_at dksX3_step_3 16 rfl rfl)
theorem dX3_step_88 : decode cX3_step 88 = .ok (.getfield 214, 3) := dk_180 0 214 (dk_at dksX3_step_3 17 rfl rfl)
theorem dX3_step_91 : decode cX3_step 91 = .ok (.if_icmp .ge 31, 3) := dk_162 0 31 (dk_at dksX3_step_3 20 rfl rfl)
theorem dX3_step_94 : decode cX3_step 94 = .ok (.aload_n 0, 1) := dk_42 (dk_at dksX3_step_3 23 rfl rfl)
theorem dX3_step_95 : decode cX3_step 95 = .ok (.getfield 63, 3) := dk_180 0 63 (dk_at dksX3_step_4 0 rfl rfl)
theorem dX3_step_98 : decode cX3_step 98 = .ok (.iload 4, 2) := dk_21 4 (dk_at dksX3_step_4 3 rfl rfl)
theorem dX3_step_100 : decode cX3_step 100 = .ok (.aload_n 0, 1) := dk_42 (dk_at dksX3_step_4 5 rfl rfl)
theorem dX3_step_101 : decode cX3_step 101 = .ok (.getfield 214, 3) := dk_180 0 214 (dk_at dksX3_step_4 6 rfl rfl)
theorem dX3_step_104 : decode cX3_step 104 = .ok (.if_icmp .ge 8, 3) := dk_162 0 8 (dk_at dksX3_step_4 9 rfl rfl)
theorem dX3_step_107 : decode cX3_step 107 = .ok (.iload 4, 2) := dk_21 4 (dk_at dksX3_step_4 12 rfl rfl)
theorem dX3_step_109 : decode cX3_step 109 = .ok (.goto 4, 3) := dk_167 0 4 (dk_at dksX3_step_4 14 rfl rfl)
theorem dX3_step_112 : decode cX3_step 112 = .ok (.iconst 0, 1) := dk_3 (dk_at dksX3_step_4 17 rfl rfl)
theorem dX3_step_113 : decode cX3_step 113 = .ok (.iaload, 1) := dk_46 (dk_at dksX3_step_4 18 rfl rfl)
theorem dX3_step_114 : decode cX3_step 114 = .ok (.iconst (-1), 1) := dk_2 (dk_at dksX3_step_4 19 rfl rfl)
theorem dX3_step_115 : decode cX3_step 115 = .ok (.if_icmp .ne 7, 3) := dk_160 0 7 (dk_at dksX3_step_4 20 rfl rfl)
theorem dX3_step_118 : decode cX3_step 118 = .ok (.iconst 1, 1) := dk_4 (dk_at dksX3_step_4 23 rfl rfl)
theorem dX3_step_119 : decode cX3_step 119 = .ok (.goto 4, 3) := dk_167 0 4 (dk_at dksX3_step_5 0 rfl rfl)
theorem dX3_step_122 : decode cX3_step 122 = .ok (.iconst 0, 1) := dk_3 (dk_at dksX3_step_5 3 rfl rfl)
theorem dX3_step_123 : decode cX3_step 123 = .ok (.istore 6, 2) := dk_54 6 (dk_at dksX3_step_5 4 rfl rfl)
theorem dX3_step_125 : decode cX3_step 125 = .ok (.iload 5, 2) := dk_21 5 (dk_at dksX3_step_5 6 rfl rfl)
theorem dX3_step_127 : decode cX3_step 127 = .ok (.ifCond .eq 13, 3) := dk_153 0 13 (dk_at dksX3_step_5 8 rfl rfl)
theorem dX3_step_130 : decode cX3_step 130 = .ok (.aload_n 0, 1) := dk_42 (dk_at dksX3_step_5 11 rfl rfl)
theorem dX3_step_131 : decode cX3_step 131 = .ok (.getfield 57, 3) := dk_180 0 57 (dk_at dksX3_step_5 12 rfl rfl)
theorem dX3_step_134 : decode cX3_step 134 = .ok (.iload 4, 2) := dk_21 4 (dk_at dksX3_step_5 15 rfl rfl)
theorem dX3_step_136 : decode cX3_step 136 = .ok (.iaload, 1) := dk_46 (dk_at dksX3_step_5 17 rfl rfl)
theorem dX3_step_137 : decode cX3_step 137 = .ok (.goto 31, 3) := dk_167 0 31 (dk_at dksX3_step_5 18 rfl rfl)
theorem dX3_step_140 : decode cX3_step 140 = .ok (.iload 6, 2) := dk_21 6 (dk_at dksX3_step_5 21 rfl rfl)
theorem dX3_step_142 : decode cX3_step 142 = .ok (.ifCond .eq 16, 3) := dk_153 0 16 (dk_at dksX3_step_6 0 rfl rfl)
theorem dX3_step_145 : decode cX3_step 145 = .ok (.bipush 100, 2) := dk_16 100 (dk_at dksX3_step_6 3 rfl rfl)
theorem dX3_step_147 : decode cX3_step 147 = .ok (.aload_n 0, 1) := dk_42 (dk_at dksX3_step_6 5 rfl rfl)
theorem dX3_step_148 : decode cX3_step 148 = .ok (.getfield 57, 3) := dk_180 0 57 (dk_at dksX3_step_6 6 rfl rfl)
theorem dX3_step_151 : decode cX3_step 151 = .ok (.iload 4, 2) := dk_21 4 (dk_at dksX3_step_6 9 rfl rfl)
theorem dX3_step_153 : decode cX3_step 153 = .ok (.iaload, 1) := dk_46 (dk_at dksX3_step_6 11 rfl rfl)
theorem dX3_step_154 : decode cX3_step 154 = .ok (.iadd, 1) := dk_96 (dk_at dksX3_step_6 12 rfl rfl)
theorem dX3_step_155 : decode cX3_step 155 = .ok (.goto 13, 3) := dk_167 0 13 (dk_at dksX3_step_6 13 rfl rfl)
theorem dX3_step_158 : decode cX3_step 158 = .ok (.sipush 200, 3) := dk_17 0 200 (dk_at dksX3_step_6 16 rfl rfl)
theorem dX3_step_161 : decode cX3_step 161 = .ok (.aload_n 0, 1) := dk_42 (dk_at dksX3_step_6 19 rfl rfl)
theorem dX3_step_162 : decode cX3_step 162 = .ok (.getfield 60, 3) := dk_180 0 60 (dk_at dksX3_step_6 20 rfl rfl)
theorem dX3_step_165 : decode cX3_step 165 = .ok (.iload_n 3, 1) := dk_29 (dk_at dksX3_step_6 23 rfl rfl)
theorem dX3_step_166 : decode cX3_step 166 = .ok (.iaload, 1) := dk_46 (dk_at dksX3_step_7 0 rfl rfl)
theorem dX3_step_167 : decode cX3_step 167 = .ok (.iadd, 1) := dk_96 (dk_at dksX3_step_7 1 rfl rfl)
theorem dX3_step_168 : decode cX3_step 168 = .ok (.istore 7, 2) := dk_54 7 (dk_at dksX3_step_7 2 rfl rfl)
theorem dX3_step_170 : decode cX3_step 170 = .ok (.iload_n 2, 1) := dk_28 (dk_at dksX3_step_7 4 rfl rfl)
theorem dX3_step_171 : decode cX3_step 171 = .ok (.iload_n 1, 1) := dk_27 (dk_at dksX3_step_7 5 rfl rfl)
theorem dX3_step_172 : decode cX3_step 172 = .ok (.if_icmp .ne 10, 3) := dk_160 0 10 (dk_at dksX3_step_7 6 rfl rfl)
theorem dX3_step_175 : decode cX3_step 175 = .ok (.aload_n 0, 1) := dk_42 (dk_at dksX3_step_7 9 rfl rfl)
theorem dX3_step_176 : decode cX3_step 176 = .ok (.iload 7, 2) := dk_21 7 (dk_at dksX3_step_7 10 rfl rfl)
theorem dX3_step_178 : decode cX3_step 178 = .ok (.invokevirtual 138, 3) := dk_182 0 138 (dk_at dksX3_step_7 12 rfl rfl)
theorem dX3_step_181 : decode cX3_step 181 = .ok (.ireturn, 1) := dk_172 (dk_at dksX3_step_7 15 rfl rfl)
theorem dX3_step_182 : decode cX3_step 182 = .ok (.iinc 2 1, 3) := dk_132 2 1 (dk_at dksX3_step_7 16 rfl rfl)
theorem dX3_step_185 : decode cX3_step 185 = .ok (.iload 4, 2) := dk_21 4 (dk_at dksX3_step_7 19 rfl rfl)
theorem dX3_step_187 : decode cX3_step 187 = .ok (.iload 5, 2) := dk_21 5 (dk_at dksX3_step_7 21 rfl rfl)
theorem dX3_step_189 : decode cX3_step 189 = .ok (.ifCond .ne 8, 3) := dk_154 0 8 (dk_at dksX3_step_8 0 rfl rfl)
theorem dX3_step_192 : decode cX3_step 192 = .ok (.iload 6, 2) := dk_21 6 (dk_at dksX3_step_8 3 rfl rfl)
theorem dX3_step_194 : decode cX3_step 194 = .ok (.ifCond .eq 7, 3) := dk_153 0 7 (dk_at dksX3_step_8 5 rfl rfl)
theorem dX3_step_197 : decode cX3_step 197 = .ok (.iconst 1, 1) := dk_4 (dk_at dksX3_step_8 8 rfl rfl)
theorem dX3_step_198 : decode cX3_step 198 = .ok (.goto 4, 3) := dk_167 0 4 (dk_at dksX3_step_8 9 rfl rfl)
theorem dX3_step_201 : decode cX3_step 201 = .ok (.iconst 0, 1) := dk_3 (dk_at dksX3_step_8 12 rfl rfl)
theorem dX3_step_202 : decode cX3_step 202 = .ok (.iadd, 1) := dk_96 (dk_at dksX3_step_8 13 rfl rfl)
theorem dX3_step_203 : decode cX3_step 203 = .ok (.istore 4, 2) := dk_54 4 (dk_at dksX3_step_8 14 rfl rfl)
theorem dX3_step_205 : decode cX3_step 205 = .ok (.iload_n 3, 1) := dk_29 (dk_at dksX3_step_8 16 rfl rfl)
theorem dX3_step_206 : decode cX3_step 206 = .ok (.iload 6, 2) := dk_21 6 (dk_at dksX3_step_8 17 rfl rfl)
theorem dX3_step_208 : decode cX3_step 208 = .ok (.ifCond .eq 7, 3) := dk_153 0 7 (dk_at dksX3_step_8 19 rfl rfl)
theorem dX3_step_211 : decode cX3_step 211 = .ok (.iconst 0, 1) := dk_3 (dk_at dksX3_step_8 22 rfl rfl)
theorem dX3_step_212 : decode cX3_step 212 = .ok (.goto 4, 3) := dk_167 0 4 (dk_at dksX3_step_9 0 rfl rfl)
theorem dX3_step_215 : decode cX3_step 215 = .ok (.iconst 1, 1) := dk_4 (dk_at dksX3_step_9 3 rfl rfl)
theorem dX3_step_216 : decode cX3_step 216 = .ok (.iadd, 1) := dk_96 (dk_at dksX3_step_9 4 rfl rfl)
theorem dX3_step_217 : decode cX3_step 217 = .ok (.istore_n 3, 1) := dk_62 (dk_at dksX3_step_9 5 rfl rfl)
theorem dX3_step_218 : decode cX3_step 218 = .ok (.goto (-198), 3) := dk_167 255 58 (dk_at dksX3_step_9 6 rfl rfl)
theorem dX3_step_221 : decode cX3_step 221 = .ok (.aload_n 0, 1) := dk_42 (dk_at dksX3_step_9 9 rfl rfl)
theorem dX3_step_222 : decode cX3_step 222 = .ok (.iconst 2, 1) := dk_5 (dk_at dksX3_step_9 10 rfl rfl)
theorem dX3_step_223 : decode cX3_step 223 = .ok (.invokevirtual 130, 3) := dk_182 0 130 (dk_at dksX3_step_9 11 rfl rfl)
theorem dX3_step_226 : decode cX3_step 226 = .ok (.ireturn, 1) := dk_172 (dk_at dksX3_step_9 14 rfl rfl)
abbrev cX3_similarity : ByteArray := prog_22_method_42_code
def yX3_similarity : MethodName := ⟨RX3, "similarity", "()D"⟩
def dkwX3_similarity_2 : List UInt8 := [104, 135, 42, 180, 0, 214, 42, 180, 0, 217, 96, 135, 111, 175]
abbrev dktX3_similarity_2 : List UInt8 := dkwX3_similarity_2 ++ []
def dkwX3_similarity_1 : List UInt8 := [5, 167, 0, 4, 3, 181, 0, 115, 42, 180, 0, 115, 153, 0, 7, 14, 167, 0, 21, 5, 42, 182, 0, 236]
abbrev dktX3_similarity_1 : List UInt8 := dkwX3_similarity_1 ++ dktX3_similarity_2
def dkwX3_similarity_0 : List UInt8 := [42, 42, 180, 0, 220, 154, 0, 7, 4, 167, 0, 20, 42, 180, 0, 214, 42, 180, 0, 217, 96, 154, 0, 7]
abbrev dktX3_similarity_0 : List UInt8 := dkwX3_similarity_0 ++ dktX3_similarity_1
theorem dksX3_similarity_0 : cX3_similarity.data.toList.drop 0 = dktX3_similarity_0 := by decide +kernel
theorem dksX3_similarity_1 : cX3_similarity.data.toList.drop 24 = dktX3_similarity_1 := dk_seg dksX3_similarity_0 24 rfl rfl
theorem dksX3_similarity_2 : cX3_similarity.data.toList.drop 48 = dktX3_similarity_2 := dk_seg dksX3_similarity_1 24 rfl rfl
theorem dX3_similarity_0 : decode cX3_similarity 0 = .ok (.aload_n 0, 1) := dk_42 (dk_at dksX3_similarity_0 0 rfl rfl)
theorem dX3_similarity_1 : decode cX3_similarity 1 = .ok (.aload_n 0, 1) := dk_42 (dk_at dksX3_similarity_0 1 rfl rfl)
theorem dX3_similarity_2 : decode cX3_similarity 2 = .ok (.getfield 220, 3) := dk_180 0 220 (dk_at dksX3_similarity_0 2 rfl rfl)
theorem dX3_similarity_5 : decode cX3_similarity 5 = .ok (.ifCond .ne 7, 3) := dk_154 0 7 (dk_at dksX3_similarity_0 5 rfl rfl)
theorem dX3_similarity_8 : decode cX3_similarity 8 = .ok (.iconst 1, 1) := dk_4 (dk_at dksX3_similarity_0 8 rfl rfl)
theorem dX3_similarity_9 : decode cX3_similarity 9 = .ok (.goto 20, 3) := dk_167 0 20 (dk_at dksX3_similarity_0 9 rfl rfl)
theorem dX3_similarity_12 : decode cX3_similarity 12 = .ok (.aload_n 0, 1) := dk_42 (dk_at dksX3_similarity_0 12 rfl rfl)
theorem dX3_similarity_13 : decode cX3_similarity 13 = .ok (.getfield 214, 3) := dk_180 0 214 (dk_at dksX3_similarity_0 13 rfl rfl)
theorem dX3_similarity_16 : decode cX3_similarity 16 = .ok (.aload_n 0, 1) := dk_42 (dk_at dksX3_similarity_0 16 rfl rfl)
theorem dX3_similarity_17 : decode cX3_similarity 17 = .ok (.getfield 217, 3) := dk_180 0 217 (dk_at dksX3_similarity_0 17 rfl rfl)
theorem dX3_similarity_20 : decode cX3_similarity 20 = .ok (.iadd, 1) := dk_96 (dk_at dksX3_similarity_0 20 rfl rfl)
theorem dX3_similarity_21 : decode cX3_similarity 21 = .ok (.ifCond .ne 7, 3) := dk_154 0 7 (dk_at dksX3_similarity_0 21 rfl rfl)
theorem dX3_similarity_24 : decode cX3_similarity 24 = .ok (.iconst 2, 1) := dk_5 (dk_at dksX3_similarity_1 0 rfl rfl)
theorem dX3_similarity_25 : decode cX3_similarity 25 = .ok (.goto 4, 3) := dk_167 0 4 (dk_at dksX3_similarity_1 1 rfl rfl)
theorem dX3_similarity_28 : decode cX3_similarity 28 = .ok (.iconst 0, 1) := dk_3 (dk_at dksX3_similarity_1 4 rfl rfl)
theorem dX3_similarity_29 : decode cX3_similarity 29 = .ok (.putfield 115, 3) := dk_181 0 115 (dk_at dksX3_similarity_1 5 rfl rfl)
theorem dX3_similarity_32 : decode cX3_similarity 32 = .ok (.aload_n 0, 1) := dk_42 (dk_at dksX3_similarity_1 8 rfl rfl)
theorem dX3_similarity_33 : decode cX3_similarity 33 = .ok (.getfield 115, 3) := dk_180 0 115 (dk_at dksX3_similarity_1 9 rfl rfl)
theorem dX3_similarity_36 : decode cX3_similarity 36 = .ok (.ifCond .eq 7, 3) := dk_153 0 7 (dk_at dksX3_similarity_1 12 rfl rfl)
theorem dX3_similarity_39 : decode cX3_similarity 39 = .ok (.dconst 0, 1) := dk_14 (dk_at dksX3_similarity_1 15 rfl rfl)
theorem dX3_similarity_40 : decode cX3_similarity 40 = .ok (.goto 21, 3) := dk_167 0 21 (dk_at dksX3_similarity_1 16 rfl rfl)
theorem dX3_similarity_43 : decode cX3_similarity 43 = .ok (.iconst 2, 1) := dk_5 (dk_at dksX3_similarity_1 19 rfl rfl)
theorem dX3_similarity_44 : decode cX3_similarity 44 = .ok (.aload_n 0, 1) := dk_42 (dk_at dksX3_similarity_1 20 rfl rfl)
theorem dX3_similarity_45 : decode cX3_similarity 45 = .ok (.invokevirtual 236, 3) := dk_182 0 236 (dk_at dksX3_similarity_1 21 rfl rfl)
theorem dX3_similarity_48 : decode cX3_similarity 48 = .ok (.imul, 1) := dk_104 (dk_at dksX3_similarity_2 0 rfl rfl)
theorem dX3_similarity_49 : decode cX3_similarity 49 = .ok (.i2d, 1) := dk_135 (dk_at dksX3_similarity_2 1 rfl rfl)
theorem dX3_similarity_50 : decode cX3_similarity 50 = .ok (.aload_n 0, 1) := dk_42 (dk_at dksX3_similarity_2 2 rfl rfl)
theorem dX3_similarity_51 : decode cX3_similarity 51 = .ok (.getfield 214, 3) := dk_180 0 214 (dk_at dksX3_similarity_2 3 rfl rfl)
theorem dX3_similarity_54 : decode cX3_similarity 54 = .ok (.aload_n 0, 1) := dk_42 (dk_at dksX3_similarity_2 6 rfl rfl)
theorem dX3_similarity_55 : decode cX3_similarity 55 = .ok (.getfield 217, 3) := dk_180 0 217 (dk_at dksX3_similarity_2 7 rfl rfl)
theorem dX3_similarity_58 : decode cX3_similarity 58 = .ok (.iadd, 1) := dk_96 (dk_at dksX3_similarity_2 10 rfl rfl)
theorem dX3_similarity_59 : decode cX3_similarity 59 = .ok (.i2d, 1) := dk_135 (dk_at dksX3_similarity_2 11 rfl rfl)
theorem dX3_similarity_60 : decode cX3_similarity 60 = .ok (.ddiv, 1) := dk_111 (dk_at dksX3_similarity_2 12 rfl rfl)
theorem dX3_similarity_61 : decode cX3_similarity 61 = .ok (.dreturn, 1) := dk_175 (dk_at dksX3_similarity_2 13 rfl rfl)
abbrev cX3_findMoves : ByteArray := prog_22_method_45_code
def yX3_findMoves : MethodName := ⟨RX3, "findMoves", "(I)I"⟩
def dkwX3_findMoves_11 : List UInt8 := [167, 255, 99, 42, 42, 180, 0, 230, 182, 0, 138, 172]
abbrev dktX3_findMoves_11 : List UInt8 := dkwX3_findMoves_11 ++ []
def dkwX3_findMoves_10 : List UInt8 := [180, 0, 66, 6, 42, 180, 0, 230, 104, 5, 96, 28, 79, 42, 89, 180, 0, 230, 4, 96, 181, 0, 230]
abbrev dktX3_findMoves_10 : List UInt8 := dkwX3_findMoves_10 ++ dktX3_findMoves_11
def dkwX3_findMoves_9 : List UInt8 := [42, 180, 0, 230, 104, 29, 79, 42, 180, 0, 66, 6, 42, 180, 0, 230, 104, 4, 96, 21, 4, 79, 42]
abbrev dktX3_findMoves_9 : List UInt8 := dkwX3_findMoves_9 ++ dktX3_findMoves_10
def dkwX3_findMoves_8 : List UInt8 := [132, 5, 1, 167, 255, 181, 28, 27, 161, 0, 62, 42, 29, 21, 4, 28, 182, 0, 239, 42, 180, 0, 66, 6]
abbrev dktX3_findMoves_8 : List UInt8 := dkwX3_findMoves_8 ++ dktX3_findMoves_9
def dkwX3_findMoves_7 : List UInt8 := [21, 6, 167, 0, 5, 21, 4, 54, 4, 28, 21, 7, 184, 0, 182, 61, 132, 6, 1, 167, 255, 199]
abbrev dktX3_findMoves_7 : List UInt8 := dkwX3_findMoves_7 ++ dktX3_findMoves_8
def dkwX3_findMoves_6 : List UInt8 := [182, 0, 243, 54, 7, 21, 7, 28, 164, 0, 8, 21, 5, 167, 0, 4, 29, 62, 21, 7, 28, 164, 0, 8]
abbrev dktX3_findMoves_6 : List UInt8 := dkwX3_findMoves_6 ++ dktX3_findMoves_7
def dkwX3_findMoves_5 : List UInt8 := [180, 0, 214, 162, 0, 72, 3, 54, 6, 21, 6, 42, 180, 0, 217, 162, 0, 54, 42, 21, 5, 21, 6]
abbrev dktX3_findMoves_5 : List UInt8 := dkwX3_findMoves_5 ++ dktX3_findMoves_6
def dkwX3_findMoves_4 : List UInt8 := [181, 0, 230, 16, 24, 61, 28, 27, 161, 0, 158, 3, 61, 3, 62, 3, 54, 4, 3, 54, 5, 21, 5, 42]
abbrev dktX3_findMoves_4 : List UInt8 := dkwX3_findMoves_4 ++ dktX3_findMoves_5
def dkwX3_findMoves_3 : List UInt8 := [46, 155, 0, 15, 42, 28, 42, 180, 0, 63, 28, 46, 4, 182, 0, 239, 132, 2, 1, 167, 255, 224, 42, 3]
abbrev dktX3_findMoves_3 : List UInt8 := dkwX3_findMoves_3 ++ dktX3_findMoves_4
def dkwX3_findMoves_2 : List UInt8 := [28, 3, 84, 132, 2, 1, 167, 255, 233, 3, 61, 28, 42, 180, 0, 214, 162, 0, 30, 42, 180, 0, 63, 28]
abbrev dktX3_findMoves_2 : List UInt8 := dkwX3_findMoves_2 ++ dktX3_findMoves_3
def dkwX3_findMoves_1 : List UInt8 := [5, 182, 0, 130, 172, 3, 61, 28, 16, 24, 162, 0, 23, 42, 180, 0, 72, 28, 3, 84, 42, 180, 0, 76]
abbrev dktX3_findMoves_1 : List UInt8 := dkwX3_findMoves_1 ++ dktX3_findMoves_2
def dkwX3_findMoves_0 : List UInt8 := [27, 4, 16, 9, 184, 0, 119, 154, 0, 9, 42, 4, 182, 0, 130, 172, 42, 180, 0, 220, 154, 0, 9, 42]
abbrev dktX3_findMoves_0 : List UInt8 := dkwX3_findMoves_0 ++ dktX3_findMoves_1
theorem dksX3_findMoves_0 : cX3_findMoves.data.toList.drop 0 = dktX3_findMoves_0 := by decide +kernel
theorem dksX3_findMoves_1 : cX3_findMoves.data.toList.drop 24 = dktX3_findMoves_1 := dk_seg dksX3_findMoves_0 24 rfl rfl
theorem dksX3_findMoves_2 : cX3_findMoves.data.toList.drop 48 = dktX3_findMoves_2 := dk_seg dksX3_findMoves_1 24 rfl rfl
theorem dksX3_findMoves_3 : cX3_findMoves.data.toList.drop 72 = dktX3_findMoves_3 := dk_seg dksX3_findMoves_2 24 rfl rfl
theorem dksX3_findMoves_4 : cX3_findMoves.data.toList.drop 96 = dktX3_findMoves_4 := dk_seg dksX3_findMoves_3 24 rfl rfl
theorem dksX3_findMoves_5 : cX3_findMoves.data.toList.drop 120 = dktX3_findMoves_5 := dk_seg dksX3_findMoves_4 24 rfl rfl
theorem dksX3_findMoves_6 : cX3_findMoves.data.toList.drop 143 = dktX3_findMoves_6 := dk_seg dksX3_findMoves_5 23 rfl rfl
theorem dksX3_findMoves_7 : cX3_findMoves.data.toList.drop 167 = dktX3_findMoves_7 := dk_seg dksX3_findMoves_6 24 rfl rfl
theorem dksX3_findMoves_8 : cX3_findMoves.data.toList.drop 189 = dktX3_findMoves_8 := dk_seg dksX3_findMoves_7 22 rfl rfl
theorem dksX3_findMoves_9 : cX3_findMoves.data.toList.drop 213 = dktX3_findMoves_9 := dk_seg dksX3_findMoves_8 24 rfl rfl
theorem dksX3_findMoves_10 : cX3_findMoves.data.toList.drop 236 = dktX3_findMoves_10 := dk_seg dksX3_findMoves_9 23 rfl rfl
theorem dksX3_findMoves_11 : cX3_findMoves.data.toList.drop 259 = dktX3_findMoves_11 := dk_seg dksX3_findMoves_10 23 rfl rfl
theorem dX3_findMoves_0 : decode cX3_findMoves 0 = .ok (.iload_n 1, 1) := dk_27 (dk_at dksX3_findMoves_0 0 rfl rfl)
theorem dX3_findMoves_1 : decode cX3_findMoves 1 = .ok (.iconst 1, 1) := dk_4 (dk_at dksX3_findMoves_0 1 rfl rfl)
theorem dX3_findMoves_2 : decode cX3_findMoves 2 = .ok (.bipush 9, 2) := dk_16 9 (dk_at dksX3_findMoves_0 2 rfl rfl)
theorem dX3_findMoves_4 : decode cX3_findMoves 4 = .ok (.invokestatic 119, 3) := dk_184 0 119 (dk_at dksX3_findMoves_0 4 rfl rfl)
theorem dX3_findMoves_7 : decode cX3_findMoves 7 = .ok (.ifCond .ne 9, 3) := dk_154 0 9 (dk_at dksX3_findMoves_0 7 rfl rfl)
theorem dX3_findMoves_10 : decode cX3_findMoves 10 = .ok (.aload_n 0, 1) := dk_42 (dk_at dksX3_findMoves_0 10 rfl rfl)
theorem dX3_findMoves_11 : decode cX3_findMoves 11 = .ok (.iconst 1, 1) := dk_4 (dk_at dksX3_findMoves_0 11 rfl rfl)
theorem dX3_findMoves_12 : decode cX3_findMoves 12 = .ok (.invokevirtual 130, 3) := dk_182 0 130 (dk_at dksX3_findMoves_0 12 rfl rfl)
theorem dX3_findMoves_15 : decode cX3_findMoves 15 = .ok (.ireturn, 1) := dk_172 (dk_at dksX3_findMoves_0 15 rfl rfl)
theorem dX3_findMoves_16 : decode cX3_findMoves 16 = .ok (.aload_n 0, 1) := dk_42 (dk_at dksX3_findMoves_0 16 rfl rfl)
theorem dX3_findMoves_17 : decode cX3_findMoves 17 = .ok (.getfield 220, 3) := dk_180 0 220 (dk_at dksX3_findMoves_0 17 rfl rfl)
theorem dX3_findMoves_20 : decode cX3_findMoves 20 = .ok (.ifCond .ne 9, 3) := dk_154 0 9 (dk_at dksX3_findMoves_0 20 rfl rfl)
theorem dX3_findMoves_23 : decode cX3_findMoves 23 = .ok (.aload_n 0, 1) := dk_42 (dk_at dksX3_findMoves_0 23 rfl rfl)
theorem dX3_findMoves_24 : decode cX3_findMoves 24 = .ok (.iconst 2, 1) := dk_5 (dk_at dksX3_findMoves_1 0 rfl rfl)
theorem dX3_findMoves_25 : decode cX3_findMoves 25 = .ok (.invokevirtual 130, 3) := dk_182 0 130 (dk_at dksX3_findMoves_1 1 rfl rfl)
theorem dX3_findMoves_28 : decode cX3_findMoves 28 = .ok (.ireturn, 1) := dk_172 (dk_at dksX3_findMoves_1 4 rfl rfl)
theorem dX3_findMoves_29 : decode cX3_findMoves 29 = .ok (.iconst 0, 1) := dk_3 (dk_at dksX3_findMoves_1 5 rfl rfl)
theorem dX3_findMoves_30 : decode cX3_findMoves 30 = .ok (.istore_n 2, 1) := dk_61 (dk_at dksX3_findMoves_1 6 rfl rfl)
theorem dX3_findMoves_31 : decode cX3_findMoves 31 = .ok (.iload_n 2, 1) := dk_28 (dk_at dksX3_findMoves_1 7 rfl rfl)
theorem dX3_findMoves_32 : decode cX3_findMoves 32 = .ok (.bipush 24, 2) := dk_16 24 (dk_at dksX3_findMoves_1 8 rfl rfl)
theorem dX3_findMoves_34 : decode cX3_findMoves 34 = .ok (.if_icmp .ge 23, 3) := dk_162 0 23 (dk_at dksX3_findMoves_1 10 rfl rfl)
theorem dX3_findMoves_37 : decode cX3_findMoves 37 = .ok (.aload_n 0, 1) := dk_42 (dk_at dksX3_findMoves_1 13 rfl rfl)
theorem dX3_findMoves_38 : decode cX3_findMoves 38 = .ok (.getfield 72, 3) := dk_180 0 72 (dk_at dksX3_findMoves_1 14 rfl rfl)
theorem dX3_findMoves_41 : decode cX3_findMoves 41 = .ok (.iload_n 2, 1) := dk_28 (dk_at dksX3_findMoves_1 17 rfl rfl)
theorem dX3_findMoves_42 : decode cX3_findMoves 42 = .ok (.iconst 0, 1) := dk_3 (dk_at dksX3_findMoves_1 18 rfl rfl)
theorem dX3_findMoves_43 : decode cX3_findMoves 43 = .ok (.bastore, 1) := dk_84 (dk_at dksX3_findMoves_1 19 rfl rfl)
theorem dX3_findMoves_44 : decode cX3_findMoves 44 = .ok (.aload_n 0, 1) := dk_42 (dk_at dksX3_findMoves_1 20 rfl rfl)
theorem dX3_findMoves_45 : decode cX3_findMoves 45 = .ok (.getfield 76, 3) := dk_180 0 76 (dk_at dksX3_findMoves_1 21 rfl rfl)
theorem dX3_findMoves_48 : decode cX3_findMoves 48 = .ok (.iload_n 2, 1) := dk_28 (dk_at dksX3_findMoves_2 0 rfl rfl)
theorem dX3_findMoves_49 : decode cX3_findMoves 49 = .ok (.iconst 0, 1) := dk_3 (dk_at dksX3_findMoves_2 1 rfl rfl)
theorem dX3_findMoves_50 : decode cX3_findMoves 50 = .ok (.bastore, 1) := dk_84 (dk_at dksX3_findMoves_2 2 rfl rfl)
theorem dX3_findMoves_51 : decode cX3_findMoves 51 = .ok (.iinc 2 1, 3) := dk_132 2 1 (dk_at dksX3_findMoves_2 3 rfl rfl)
theorem dX3_findMoves_54 : decode cX3_findMoves 54 = .ok (.goto (-23), 3) := dk_167 255 233 (dk_at dksX3_findMoves_2 6 rfl rfl)
theorem dX3_findMoves_57 : decode cX3_findMoves 57 = .ok (.iconst 0, 1) := dk_3 (dk_at dksX3_findMoves_2 9 rfl rfl)
theorem dX3_findMoves_58 : decode cX3_findMoves 58 = .ok (.istore_n 2, 1) := dk_61 (dk_at dksX3_findMoves_2 10 rfl rfl)
theorem dX3_findMoves_59 : decode cX3_findMoves 59 = .ok (.iload_n 2, 1) := dk_28 (dk_at dksX3_findMoves_2 11 rfl rfl)
theorem dX3_findMoves_60 : decode cX3_findMoves 60 = .ok (.aload_n 0, 1) := dk_42 (dk_at dksX3_findMoves_2 12 rfl rfl)
theorem dX3_findMoves_61 : decode cX3_findMoves 61 = .ok (.getfield 214, 3) := dk_180 0 214 (dk_at dksX3_findMoves_2 13 rfl rfl)
theorem dX3_findMoves_64 : decode cX3_findMoves 64 = .ok (.if_icmp .ge 30, 3) := dk_162 0 30 (dk_at dksX3_findMoves_2 16 rfl rfl)
theorem dX3_findMoves_67 : decode cX3_findMoves 67 = .ok (.aload_n 0, 1) := dk_42 (dk_at dksX3_findMoves_2 19 rfl rfl)
theorem dX3_findMoves_68 : decode cX3_findMoves 68 = .ok (.getfield 63, 3) := dk_180 0 63 (dk_at dksX3_findMoves_2 20 rfl rfl)
theorem dX3_findMoves_71 : decode cX3_findMoves 71 = .ok (.iload_n 2, 1) := dk_28 (dk_at dksX3_findMoves_2 23 rfl rfl)
theorem dX3_findMoves_72 : decode cX3_findMoves 72 = .ok (.iaload, 1) := dk_46 (dk_at dksX3_findMoves_3 0 rfl rfl)
theorem dX3_findMoves_73 : decode cX3_findMoves 73 = .ok (.ifCond .lt 15, 3) := dk_155 0 15 (dk_at dksX3_findMoves_3 1 rfl rfl)
theorem dX3_findMoves_76 : decode cX3_findMoves 76 = .ok (.aload_n 0, 1) := dk_42 (dk_at dksX3_findMoves_3 4 rfl rfl)
theorem dX3_findMoves_77 : decode cX3_findMoves 77 = .ok (.iload_n 2, 1) := dk_28 (dk_at dksX3_findMoves_3 5 rfl rfl)
theorem dX3_findMoves_78 : decode cX3_findMoves 78 = .ok (.aload_n 0, 1) := dk_42 (dk_at dksX3_findMoves_3 6 rfl rfl)
theorem dX3_findMoves_79 : decode cX3_findMoves 79 = .ok (.getfield 63, 3) := dk_180 0 63 (dk_at dksX3_findMoves_3 7 rfl rfl)
theorem dX3_findMoves_82 : decode cX3_findMoves 82 = .ok (.iload_n 2, 1) := dk_28 (dk_at dksX3_findMoves_3 10 rfl rfl)
theorem dX3_findMoves_83 : decode cX3_findMoves 83 = .ok (.iaload, 1) := dk_46 (dk_at dksX3_findMoves_3 11 rfl rfl)
theorem dX3_findMoves_84 : decode cX3_findMoves 84 = .ok (.iconst 1, 1) := dk_4 (dk_at dksX3_findMoves_3 12 rfl rfl)
theorem dX3_findMoves_85 : decode cX3_findMoves 85 = .ok (.invokevirtual 239, 3) := dk_182 0 239 (dk_at dksX3_findMoves_3 13 rfl rfl)
theorem dX3_findMoves_88 : decode cX3_findMoves 88 = .ok (.iinc 2 1, 3) := dk_132 2 1 (dk_at dksX3_findMoves_3 16 rfl rfl)
theorem dX3_findMoves_91 : decode cX3_findMoves 91 = .ok (.goto (-32), 3) := dk_167 255 224 (dk_at dksX3_findMoves_3 19 rfl rfl)
theorem dX3_findMoves_94 : decode cX3_findMoves 94 = .ok (.aload_n 0, 1) := dk_42 (dk_at dksX3_findMoves_3 22 rfl rfl)
theorem dX3_findMoves_95 : decode cX3_findMoves 95 = .ok (.iconst 0, 1) := dk_3 (dk_at dksX3_findMoves_3 23 rfl rfl)
theorem dX3_findMoves_96 : decode cX3_findMoves 96 = .ok (.putfield 230, 3) := dk_181 0 230 (dk_at dksX3_findMoves_4 0 rfl rfl)
theorem dX3_findMoves_99 : decode cX3_findMoves 99 = .ok (.bipush 24, 2) := dk_16 24 (dk_at dksX3_findMoves_4 3 rfl rfl)
theorem dX3_findMoves_101 : decode cX3_findMoves 101 = .ok (.istore_n 2, 1) := dk_61 (dk_at dksX3_findMoves_4 5 rfl rfl)
theorem dX3_findMoves_102 : decode cX3_findMoves 102 = .ok (.iload_n 2, 1) := dk_28 (dk_at dksX3_findMoves_4 6 rfl rfl)
theorem dX3_findMoves_103 : decode cX3_findMoves 103 = .ok (.iload_n 1, 1) := dk_27 (dk_at dksX3_findMoves_4 7 rfl rfl)
theorem dX3_findMoves_104 : decode cX3_findMoves 104 = .ok (.if_icmp .lt 158, 3) := dk_161 0 158 (dk_at dksX3_findMoves_4 8 rfl rfl)
theorem dX3_findMoves_107 : decode cX3_findMoves 107 = .ok (.iconst 0, 1) := dk_3 (dk_at dksX3_findMoves_4 11 rfl rfl)
theorem dX3_findMoves_108 : decode cX3_findMoves 108 = .ok (.istore_n 2, 1) := dk_61 (dk_at dksX3_findMoves_4 12 rfl rfl)
theorem dX3_findMoves_109 : decode cX3_findMoves 109 = .ok (.iconst 0, 1) := dk_3 (dk_at dksX3_findMoves_4 13 rfl rfl)
theorem dX3_findMoves_110 : decode cX3_findMoves 110 = .ok (.istore_n 3, 1) := dk_62 (dk_at dksX3_findMoves_4 14 rfl rfl)
theorem dX3_findMoves_111 : decode cX3_findMoves 111 = .ok (.iconst 0, 1) := dk_3 (dk_at dksX3_findMoves_4 15 rfl rfl)
theorem dX3_findMoves_112 : decode cX3_findMoves 112 = .ok (.istore 4, 2) := dk_54 4 (dk_at dksX3_findMoves_4 16 rfl rfl)
theorem dX3_findMoves_114 : decode cX3_findMoves 114 = .ok (.iconst 0, 1) := dk_3 (dk_at dksX3_findMoves_4 18 rfl rfl)
theorem dX3_findMoves_115 : decode cX3_findMoves 115 = .ok (.istore 5, 2) := dk_54 5 (dk_at dksX3_findMoves_4 19 rfl rfl)
theorem dX3_findMoves_117 : decode cX3_findMoves 117 = .ok (.iload 5, 2) := dk_21 5 (dk_at dksX3_findMoves_4 21 rfl rfl)
theorem dX3_findMoves_119 : decode cX3_findMoves 119 = .ok (.aload_n 0, 1) := dk_42 (dk_at dksX3_findMoves_4 23 rfl rfl)
theorem dX3_findMoves_120 : decode cX3_findMoves 120 = .ok (.getfield 214, 3) := dk_180 0 214 (dk_at dksX3_findMoves_5 0 rfl rfl)
theorem dX3_findMoves_123 : decode cX3_findMoves 123 = .ok (.if_icmp .ge 72, 3) := dk_162 0 72 (dk_at dksX3_findMoves_5 3 rfl rfl)
theorem dX3_findMoves_126 : decode cX3_findMoves 126 = .ok (.iconst 0, 1) := dk_3 (dk_at dksX3_findMoves_5 6 rfl rfl)
theorem dX3_findMoves_127 : decode cX3_findMoves 127 = .ok (.istore 6, 2) := dk_54 6 (dk_at dksX3_findMoves_5 7 rfl rfl)
theorem dX3_findMoves_129 : decode cX3_findMoves 129 = .ok (.iload 6, 2) := dk_21 6 (dk_at dksX3_findMoves_5 9 rfl rfl)
theorem dX3_findMoves_131 : decode cX3_findMoves 131 = .ok (.aload_n 0, 1) := dk_42 (dk_at dksX3_findMoves_5 11 rfl rfl)
theorem dX3_findMoves_132 : decode cX3_findMoves 132 = .ok (.getfield 217, 3) := dk_180 0 217 (dk_at dksX3_findMoves_5 12 rfl rfl)
theorem dX3_findMoves_135 : decode cX3_findMoves 135 = .ok (.if_icmp .ge 54, 3) := dk_162 0 54 (dk_at dksX3_findMoves_5 15 rfl rfl)
theorem dX3_findMoves_138 : decode cX3_findMoves 138 = .ok (.aload_n 0, 1) := dk_42 (dk_at dksX3_findMoves_5 18 rfl rfl)
theorem dX3_findMoves_139 : decode cX3_findMoves 139 = .ok (.iload 5, 2) := dk_21 5 (dk_at dksX3_findMoves_5 19 rfl rfl)
theorem dX3_findMoves_141 : decode cX3_findMoves 141 = .ok (.iload 6, 2) := dk_21 6 (dk_at dksX3_findMoves_5 21 rfl rfl)
theorem dX3_findMoves_143 : decode cX3_findMoves 143 = .ok (.invokevirtual 243, 3) := dk_182 0 243 (dk_at dksX3_findMoves_6 0 rfl rfl)
theorem dX3_findMoves_146 : decode cX3_findMoves 146 = .ok (.istore 7, 2) := dk_54 7 (dk_at dksX3_findMoves_6 3 rfl rfl)
theorem dX3_findMoves_148 : decode cX3_findMoves 148 = .ok (.iload 7, 2) := dk_21 7 (dk_at dksX3_findMoves_6 5 rfl rfl)
theorem dX3_findMoves_150 : decode cX3_findMoves 150 = .ok (.iload_n 2, 1) := dk_28 (dk_at dksX3_findMoves_6 7 rfl rfl)
theorem dX3_findMoves_151 : decode cX3_findMoves 151 = .ok (.if_icmp .le 8, 3) := dk_164 0 8 (dk_at dksX3_findMoves_6 8 rfl rfl)
theorem dX3_findMoves_154 : decode cX3_findMoves 154 = .ok (.iload 5, 2) := dk_21 5 (dk_at dksX3_findMoves_6 11 rfl rfl)
theorem dX3_findMoves_156 : decode cX3_findMoves 156 = .ok (.goto 4, 3) := dk_167 0 4 (dk_at dksX3_findMoves_6 13 rfl rfl)
theorem dX3_findMoves_159 : decode cX3_findMoves 159 = .ok (.iload_n 3, 1) := dk_29 (dk_at dksX3_findMoves_6 16 rfl rfl)
theorem dX3_findMoves_160 : decode cX3_findMoves 160 = .ok (.istore_n 3, 1) := dk_62 (dk_at dksX3_findMoves_6 17 rfl rfl)
theorem dX3_findMoves_161 : decode cX3_findMoves 161 = .ok (.iload 7, 2) := dk_21 7 (dk_at dksX3_findMoves_6 18 rfl rfl)
theorem dX3_findMoves_163 : decode cX3_findMoves 163 = .ok (.iload_n 2, 1) := dk_28 (dk_at dksX3_findMoves_6 20 rfl rfl)
theorem dX3_findMoves_164 : decode cX3_findMoves 164 = .ok (.if_icmp .le 8, 3) := dk_164 0 8 (dk_at dksX3_findMoves_6 21 rfl rfl)
theorem dX3_findMoves_167 : decode cX3_findMoves 167 = .ok (.iload 6, 2) := dk_21 6 (dk_at dksX3_findMoves_7 0 rfl rfl)
theorem dX3_findMoves_169 : decode cX3_findMoves 169 = .ok (.goto 5, 3) := dk_167 0 5 (dk_at dksX3_findMoves_7 2 rfl rfl)
theorem dX3_findMoves_172 : decode cX3_findMoves 172 = .ok (.iload 4, 2) := dk_21 4 (dk_at dksX3_findMoves_7 5 rfl rfl)
theorem dX3_findMoves_174 : decode cX3_findMoves 174 = .ok (.istore 4, 2) := dk_54 4 (dk_at dksX3_findMoves_7 7 rfl rfl)
theorem dX3_findMoves_176 : decode cX3_findMoves 176 = .ok (.iload_n 2, 1) := dk_28 (dk_at dksX3_findMoves_7 9 rfl rfl)
theorem dX3_findMoves_177 : decode cX3_findMoves 177 = .ok (.iload 7, 2) := dk_21 7 (dk_at dksX3_findMoves_7 10 rfl rfl)
theorem dX3_findMoves_179 : decode cX3_findMoves 179 = .ok (.invokestatic 182, 3) := dk_184 0 182 (dk_at dksX3_findMoves_7 12 rfl rfl)
theorem dX3_findMoves_182 : decode cX3_findMoves 182 = .ok (.istore_n 2, 1) := dk_61 (dk_at dksX3_findMoves_7 15 rfl rfl)
theorem dX3_findMoves_183 : decode cX3_findMoves 183 = .ok (.iinc 6 1, 3) := dk_132 6 1 (dk_at dksX3_findMoves_7 16 rfl rfl)
theorem dX3_findMoves_186 : decode cX3_findMoves 186 = .ok (.goto (-57), 3) := dk_167 255 199 (dk_at dksX3_findMoves_7 19 rfl rfl)
theorem dX3_findMoves_189 : decode cX3_findMoves 189 = .ok (.iinc 5 1, 3) := dk_132 5 1 (dk_at dksX3_findMoves_8 0 rfl rfl)
theorem dX3_findMoves_192 : decode cX3_findMoves 192 = .ok (.goto (-75), 3) := dk_167 255 181 (dk_at dksX3_findMoves_8 3 rfl rfl)
theorem dX3_findMoves_195 : decode cX3_findMoves 195 = .ok (.iload_n 2, 1) := dk_28 (dk_at dksX3_findMoves_8 6 rfl rfl)
theorem dX3_findMoves_196 : decode cX3_findMoves 196 = .ok (.iload_n 1, 1) := dk_27 (dk_at dksX3_findMoves_8 7 rfl rfl)
theorem dX3_findMoves_197 : decode cX3_findMoves 197 = .ok (.if_icmp .lt 62, 3) := dk_161 0 62 (dk_at dksX3_findMoves_8 8 rfl rfl)
theorem dX3_findMoves_200 : decode cX3_findMoves 200 = .ok (.aload_n 0, 1) := dk_42 (dk_at dksX3_findMoves_8 11 rfl rfl)
theorem dX3_findMoves_201 : decode cX3_findMoves 201 = .ok (.iload_n 3, 1) := dk_29 (dk_at dksX3_findMoves_8 12 rfl rfl)
theorem dX3_findMoves_202 : decode cX3_findMoves 202 = .ok (.iload 4, 2) := dk_21 4 (dk_at dksX3_findMoves_8 13 rfl rfl)
theorem dX3_findMoves_204 : decode cX3_findMoves 204 = .ok (.iload_n 2, 1) := dk_28 (dk_at dksX3_findMoves_8 15 rfl rfl)
theorem dX3_findMoves_205 : decode cX3_findMoves 205 = .ok (.invokevirtual 239, 3) := dk_182 0 239 (dk_at dksX3_findMoves_8 16 rfl rfl)
theorem dX3_findMoves_208 : decode cX3_findMoves 208 = .ok (.aload_n 0, 1) := dk_42 (dk_at dksX3_findMoves_8 19 rfl rfl)
theorem dX3_findMoves_209 : decode cX3_findMoves 209 = .ok (.getfield 66, 3) := dk_180 0 66 (dk_at dksX3_findMoves_8 20 rfl rfl)
theorem dX3_findMoves_212 : decode cX3_findMoves 212 = .ok (.iconst 3, 1) := dk_6 (dk_at dksX3_findMoves_8 23 rfl rfl)
theorem dX3_findMoves_213 : decode cX3_findMoves 213 = .ok (.aload_n 0, 1) := dk_42 (dk_at dksX3_findMoves_9 0 rfl rfl)
theorem dX3_findMoves_214 : decode cX3_findMoves 214 = .ok (.getfield 230, 3) := dk_180 0 230 (dk_at dksX3_findMoves_9 1 rfl rfl)
theorem dX3_findMoves_217 : decode cX3_findMoves 217 = .ok (.imul, 1) := dk_104 (dk_at dksX3_findMoves_9 4 rfl rfl)
theorem dX3_findMoves_218 : decode cX3_findMoves 218 = .ok (.iload_n 3, 1) := dk_29 (dk_at dksX3_findMoves_9 5 rfl rfl)
theorem dX3_findMoves_219 : decode cX3_findMoves 219 = .ok (.iastore, 1) := dk_79 (dk_at dksX3_findMoves_9 6 rfl rfl)
theorem dX3_findMoves_220 : decode cX3_findMoves 220 = .ok (.aload_n 0, 1) := dk_42 (dk_at dksX3_findMoves_9 7 rfl rfl)
theorem dX3_findMoves_221 : decode cX3_findMoves 221 = .ok (.getfield 66, 3) := dk_180 0 66 (dk_at dksX3_findMoves_9 8 rfl rfl)
theorem dX3_findMoves_224 : decode cX3_findMoves 224 = .ok (.iconst 3, 1) := dk_6 (dk_at dksX3_findMoves_9 11 rfl rfl)
theorem dX3_findMoves_225 : decode cX3_findMoves 225 = .ok (.aload_n 0, 1) := dk_42 (dk_at dksX3_findMoves_9 12 rfl rfl)
theorem dX3_findMoves_226 : decode cX3_findMoves 226 = .ok (.getfield 230, 3) := dk_180 0 230 (dk_at dksX3_findMoves_9 13 rfl rfl)
theorem dX3_findMoves_229 : decode cX3_findMoves 229 = .ok (.imul, 1) := dk_104 (dk_at dksX3_findMoves_9 16 rfl rfl)
theorem dX3_findMoves_230 : decode cX3_findMoves 230 = .ok (.iconst 1, 1) := dk_4 (dk_at dksX3_findMoves_9 17 rfl rfl)
theorem dX3_findMoves_231 : decode cX3_findMoves 231 = .ok (.iadd, 1) := dk_96 (dk_at dksX3_findMoves_9 18 rfl rfl)
theorem dX3_findMoves_232 : decode cX3_findMoves 232 = .ok (.iload 4, 2) := dk_21 4 (dk_at dksX3_findMoves_9 19 rfl rfl)
theorem dX3_findMoves_234 : decode cX3_findMoves 234 = .ok (.iastore, 1) := dk_79 (dk_at dksX3_findMoves_9 21 rfl rfl)
theorem dX3_findMoves_235 : decode cX3_findMoves 235 = .ok (.aload_n 0, 1) := dk_42 (dk_at dksX3_findMoves_9 22 rfl rfl)
theorem dX3_findMoves_236 : decode cX3_findMoves 236 = .ok (.getfield 66, 3) := dk_180 0 66 (dk_at dksX3_findMoves_10 0 rfl rfl)
theorem dX3_findMoves_239 : decode cX3_findMoves 239 = .ok (.iconst 3, 1) := dk_6 (dk_at dksX3_findMoves_10 3 rfl rfl)
theorem dX3_findMoves_240 : decode cX3_findMoves 240 = .ok (.aload_n 0, 1) := dk_42 (dk_at dksX3_findMoves_10 4 rfl rfl)
theorem dX3_findMoves_241 : decode cX3_findMoves 241 = .ok (.getfield 230, 3) := dk_180 0 230 (dk_at dksX3_findMoves_10 5 rfl rfl)
theorem dX3_findMoves_244 : decode cX3_findMoves 244 = .ok (.imul, 1) := dk_104 (dk_at dksX3_findMoves_10 8 rfl rfl)
theorem dX3_findMoves_245 : decode cX3_findMoves 245 = .ok (.iconst 2, 1) := dk_5 (dk_at dksX3_findMoves_10 9 rfl rfl)
theorem dX3_findMoves_246 : decode cX3_findMoves 246 = .ok (.iadd, 1) := dk_96 (dk_at dksX3_findMoves_10 10 rfl rfl)
theorem dX3_findMoves_247 : decode cX3_findMoves 247 = .ok (.iload_n 2, 1) := dk_28 (dk_at dksX3_findMoves_10 11 rfl rfl)
theorem dX3_findMoves_248 : decode cX3_findMoves 248 = .ok (.iastore, 1) := dk_79 (dk_at dksX3_findMoves_10 12 rfl rfl)
theorem dX3_findMoves_249 : decode cX3_findMoves 249 = .ok (.aload_n 0, 1) := dk_42 (dk_at dksX3_findMoves_10 13 rfl rfl)
theorem dX3_findMoves_250 : decode cX3_findMoves 250 = .ok (.dup, 1) := dk_89 (dk_at dksX3_findMoves_10 14 rfl rfl)
theorem dX3_findMoves_251 : decode cX3_findMoves 251 = .ok (.getfield 230, 3) := dk_180 0 230 (dk_at dksX3_findMoves_10 15 rfl rfl)
theorem dX3_findMoves_254 : decode cX3_findMoves 254 = .ok (.iconst 1, 1) := dk_4 (dk_at dksX3_findMoves_10 18 rfl rfl)
theorem dX3_findMoves_255 : decode cX3_findMoves 255 = .ok (.iadd, 1) := dk_96 (dk_at dksX3_findMoves_10 19 rfl rfl)
theorem dX3_findMoves_256 : decode cX3_findMoves 256 = .ok (.putfield 230, 3) := dk_181 0 230 (dk_at dksX3_findMoves_10 20 rfl rfl)
theorem dX3_findMoves_259 : decode cX3_findMoves 259 = .ok (.goto (-157), 3) := dk_167 255 99 (dk_at dksX3_findMoves_11 0 rfl rfl)
theorem dX3_findMoves_262 : decode cX3_findMoves 262 = .ok (.aload_n 0, 1) := dk_42 (dk_at dksX3_findMoves_11 3 rfl rfl)
theorem dX3_findMoves_263 : decode cX3_findMoves 263 = .ok (.aload_n 0, 1) := dk_42 (dk_at dksX3_findMoves_11 4 rfl rfl)
theorem dX3_findMoves_264 : decode cX3_findMoves 264 = .ok (.getfield 230, 3) := dk_180 0 230 (dk_at dksX3_findMoves_11 5 rfl rfl)
theorem dX3_findMoves_267 : decode cX3_findMoves 267 = .ok (.invokevirtual 138, 3) := dk_182 0 138 (dk_at dksX3_findMoves_11 8 rfl rfl)
theorem dX3_findMoves_270 : decode cX3_findMoves 270 = .ok (.ireturn, 1) := dk_172 (dk_at dksX3_findMoves_11 11 rfl rfl)
abbrev cX3_marks : ByteArray := prog_22_method_44_code
def yX3_marks : MethodName := ⟨RX3, "marks", "(III)V"⟩
def dkwX3_marks_1 : List UInt8 := [21, 4, 96, 4, 84, 132, 4, 1, 167, 255, 227, 177]
abbrev dktX3_marks_1 : List UInt8 := dkwX3_marks_1 ++ []
def dkwX3_marks_0 : List UInt8 := [3, 54, 4, 21, 4, 29, 162, 0, 29, 42, 180, 0, 72, 27, 21, 4, 96, 4, 84, 42, 180, 0, 76, 28]
abbrev dktX3_marks_0 : List UInt8 := dkwX3_marks_0 ++ dktX3_marks_1
theorem dksX3_marks_0 : cX3_marks.data.toList.drop 0 = dktX3_marks_0 := by decide +kernel
theorem dksX3_marks_1 : cX3_marks.data.toList.drop 24 = dktX3_marks_1 := dk_seg dksX3_marks_0 24 rfl rfl
theorem dX3_marks_0 : decode cX3_marks 0 = .ok (.iconst 0, 1) := dk_3 (dk_at dksX3_marks_0 0 rfl rfl)
theorem dX3_marks_1 : decode cX3_marks 1 = .ok (.istore 4, 2) := dk_54 4 (dk_at dksX3_marks_0 1 rfl rfl)
theorem dX3_marks_3 : decode cX3_marks 3 = .ok (.iload 4, 2) := dk_21 4 (dk_at dksX3_marks_0 3 rfl rfl)
theorem dX3_marks_5 : decode cX3_marks 5 = .ok (.iload_n 3, 1) := dk_29 (dk_at dksX3_marks_0 5 rfl rfl)
theorem dX3_marks_6 : decode cX3_marks 6 = .ok (.if_icmp .ge 29, 3) := dk_162 0 29 (dk_at dksX3_marks_0 6 rfl rfl)
theorem dX3_marks_9 : decode cX3_marks 9 = .ok (.aload_n 0, 1) := dk_42 (dk_at dksX3_marks_0 9 rfl rfl)
theorem dX3_marks_10 : decode cX3_marks 10 = .ok (.getfield 72, 3) := dk_180 0 72 (dk_at dksX3_marks_0 10 rfl rfl)
theorem dX3_marks_13 : decode cX3_marks 13 = .ok (.iload_n 1, 1) := dk_27 (dk_at dksX3_marks_0 13 rfl rfl)
theorem dX3_marks_14 : decode cX3_marks 14 = .ok (.iload 4, 2) := dk_21 4 (dk_at dksX3_marks_0 14 rfl rfl)
theorem dX3_marks_16 : decode cX3_marks 16 = .ok (.iadd, 1) := dk_96 (dk_at dksX3_marks_0 16 rfl rfl)
theorem dX3_marks_17 : decode cX3_marks 17 = .ok (.iconst 1, 1) := dk_4 (dk_at dksX3_marks_0 17 rfl rfl)
theorem dX3_marks_18 : decode cX3_marks 18 = .ok (.bastore, 1) := dk_84 (dk_at dksX3_marks_0 18 rfl rfl)
theorem dX3_marks_19 : decode cX3_marks 19 = .ok (.aload_n 0, 1) := dk_42 (dk_at dksX3_marks_0 19 rfl rfl)
theorem dX3_marks_20 : decode cX3_marks 20 = .ok (.getfield 76, 3) := dk_180 0 76 (dk_at dksX3_marks_0 20 rfl rfl)
theorem dX3_marks_23 : decode cX3_marks 23 = .ok (.iload_n 2, 1) := dk_28 (dk_at dksX3_marks_0 23 rfl rfl)
theorem dX3_marks_24 : decode cX3_marks 24 = .ok (.iload 4, 2) := dk_21 4 (dk_at dksX3_marks_1 0 rfl rfl)
theorem dX3_marks_26 : decode cX3_marks 26 = .ok (.iadd, 1) := dk_96 (dk_at dksX3_marks_1 2 rfl rfl)
theorem dX3_marks_27 : decode cX3_marks 27 = .ok (.iconst 1, 1) := dk_4 (dk_at dksX3_marks_1 3 rfl rfl)
theorem dX3_marks_28 : decode cX3_marks 28 = .ok (.bastore, 1) := dk_84 (dk_at dksX3_marks_1 4 rfl rfl)
theorem dX3_marks_29 : decode cX3_marks 29 = .ok (.iinc 4 1, 3) := dk_132 4 1 (dk_at dksX3_marks_1 5 rfl rfl)
theorem dX3_marks_32 : decode cX3_marks 32 = .ok (.goto (-29), 3) := dk_167 255 227 (dk_at dksX3_marks_1 8 rfl rfl)
theorem dX3_marks_35 : decode cX3_marks 35 = .ok (.return_, 1) := dk_177 (dk_at dksX3_marks_1 11 rfl rfl)
abbrev cX3_lengthFrom : ByteArray := prog_22_method_43_code
def yX3_lengthFrom : MethodName := ⟨RX3, "lengthFrom", "(II)I"⟩
def dkwX3_lengthFrom_3 : List UInt8 := [29, 172]
abbrev dktX3_lengthFrom_3 : List UInt8 := dkwX3_lengthFrom_3 ++ []
def dkwX3_lengthFrom_2 : List UInt8 := [180, 0, 57, 27, 29, 96, 46, 42, 180, 0, 60, 28, 29, 96, 46, 160, 0, 9, 132, 3, 1, 167, 255, 192]
abbrev dktX3_lengthFrom_2 : List UInt8 := dkwX3_lengthFrom_2 ++ dktX3_lengthFrom_3
def dkwX3_lengthFrom_1 : List UInt8 := [180, 0, 72, 27, 29, 96, 51, 154, 0, 39, 42, 180, 0, 76, 28, 29, 96, 51, 154, 0, 28, 42]
abbrev dktX3_lengthFrom_1 : List UInt8 := dkwX3_lengthFrom_1 ++ dktX3_lengthFrom_2
def dkwX3_lengthFrom_0 : List UInt8 := [3, 62, 27, 29, 96, 42, 180, 0, 214, 162, 0, 60, 28, 29, 96, 42, 180, 0, 217, 162, 0, 50, 42]
abbrev dktX3_lengthFrom_0 : List UInt8 := dkwX3_lengthFrom_0 ++ dktX3_lengthFrom_1
theorem dksX3_lengthFrom_0 : cX3_lengthFrom.data.toList.drop 0 = dktX3_lengthFrom_0 := by decide +kernel
theorem dksX3_lengthFrom_1 : cX3_lengthFrom.data.toList.drop 23 = dktX3_lengthFrom_1 := dk_seg dksX3_lengthFrom_0 23 rfl rfl
theorem dksX3_lengthFrom_2 : cX3_lengthFrom.data.toList.drop 45 = dktX3_lengthFrom_2 := dk_seg dksX3_lengthFrom_1 22 rfl rfl
theorem dksX3_lengthFrom_3 : cX3_lengthFrom.data.toList.drop 69 = dktX3_lengthFrom_3 := dk_seg dksX3_lengthFrom_2 24 rfl rfl
theorem dX3_lengthFrom_0 : decode cX3_lengthFrom 0 = .ok (.iconst 0, 1) := dk_3 (dk_at dksX3_lengthFrom_0 0 rfl rfl)
theorem dX3_lengthFrom_1 : decode cX3_lengthFrom 1 = .ok (.istore_n 3, 1) := dk_62 (dk_at dksX3_lengthFrom_0 1 rfl rfl)
theorem dX3_lengthFrom_2 : decode cX3_lengthFrom 2 = .ok (.iload_n 1, 1) := dk_27 (dk_at dksX3_lengthFrom_0 2 rfl rfl)
theorem dX3_lengthFrom_3 : decode cX3_lengthFrom 3 = .ok (.iload_n 3, 1) := dk_29 (dk_at dksX3_lengthFrom_0 3 rfl rfl)
theorem dX3_lengthFrom_4 : decode cX3_lengthFrom 4 = .ok (.iadd, 1) := dk_96 (dk_at dksX3_lengthFrom_0 4 rfl rfl)
theorem dX3_lengthFrom_5 : decode cX3_lengthFrom 5 = .ok (.aload_n 0, 1) := dk_42 (dk_at dksX3_lengthFrom_0 5 rfl rfl)
theorem dX3_lengthFrom_6 : decode cX3_lengthFrom 6 = .ok (.getfield 214, 3) := dk_180 0 214 (dk_at dksX3_lengthFrom_0 6 rfl rfl)
theorem dX3_lengthFrom_9 : decode cX3_lengthFrom 9 = .ok (.if_icmp .ge 60, 3) := dk_162 0 60 (dk_at dksX3_lengthFrom_0 9 rfl rfl)
theorem dX3_lengthFrom_12 : decode cX3_lengthFrom 12 = .ok (.iload_n 2, 1) := dk_28 (dk_at dksX3_lengthFrom_0 12 rfl rfl)
theorem dX3_lengthFrom_13 : decode cX3_lengthFrom 13 = .ok (.iload_n 3, 1) := dk_29 (dk_at dksX3_lengthFrom_0 13 rfl rfl)
theorem dX3_lengthFrom_14 : decode cX3_lengthFrom 14 = .ok (.iadd, 1) := dk_96 (dk_at dksX3_lengthFrom_0 14 rfl rfl)
theorem dX3_lengthFrom_15 : decode cX3_lengthFrom 15 = .ok (.aload_n 0, 1) := dk_42 (dk_at dksX3_lengthFrom_0 15 rfl rfl)
theorem dX3_lengthFrom_16 : decode cX3_lengthFrom 16 = .ok (.getfield 217, 3) := dk_180 0 217 (dk_at dksX3_lengthFrom_0 16 rfl rfl)
theorem dX3_lengthFrom_19 : decode cX3_lengthFrom 19 = .ok (.if_icmp .ge 50, 3) := dk_162 0 50 (dk_at dksX3_lengthFrom_0 19 rfl rfl)
theorem dX3_lengthFrom_22 : decode cX3_lengthFrom 22 = .ok (.aload_n 0, 1) := dk_42 (dk_at dksX3_lengthFrom_0 22 rfl rfl)
theorem dX3_lengthFrom_23 : decode cX3_lengthFrom 23 = .ok (.getfield 72, 3) := dk_180 0 72 (dk_at dksX3_lengthFrom_1 0 rfl rfl)
theorem dX3_lengthFrom_26 : decode cX3_lengthFrom 26 = .ok (.iload_n 1, 1) := dk_27 (dk_at dksX3_lengthFrom_1 3 rfl rfl)
theorem dX3_lengthFrom_27 : decode cX3_lengthFrom 27 = .ok (.iload_n 3, 1) := dk_29 (dk_at dksX3_lengthFrom_1 4 rfl rfl)
theorem dX3_lengthFrom_28 : decode cX3_lengthFrom 28 = .ok (.iadd, 1) := dk_96 (dk_at dksX3_lengthFrom_1 5 rfl rfl)
theorem dX3_lengthFrom_29 : decode cX3_lengthFrom 29 = .ok (.baload, 1) := dk_51 (dk_at dksX3_lengthFrom_1 6 rfl rfl)
theorem dX3_lengthFrom_30 : decode cX3_lengthFrom 30 = .ok (.ifCond .ne 39, 3) := dk_154 0 39 (dk_at dksX3_lengthFrom_1 7 rfl rfl)
theorem dX3_lengthFrom_33 : decode cX3_lengthFrom 33 = .ok (.aload_n 0, 1) := dk_42 (dk_at dksX3_lengthFrom_1 10 rfl rfl)
theorem dX3_lengthFrom_34 : decode cX3_lengthFrom 34 = .ok (.getfield 76, 3) := dk_180 0 76 (dk_at dksX3_lengthFrom_1 11 rfl rfl)
theorem dX3_lengthFrom_37 : decode cX3_lengthFrom 37 = .ok (.iload_n 2, 1) := dk_28 (dk_at dksX3_lengthFrom_1 14 rfl rfl)
theorem dX3_lengthFrom_38 : decode cX3_lengthFrom 38 = .ok (.iload_n 3, 1) := dk_29 (dk_at dksX3_lengthFrom_1 15 rfl rfl)
theorem dX3_lengthFrom_39 : decode cX3_lengthFrom 39 = .ok (.iadd, 1) := dk_96 (dk_at dksX3_lengthFrom_1 16 rfl rfl)
theorem dX3_lengthFrom_40 : decode cX3_lengthFrom 40 = .ok (.baload, 1) := dk_51 (dk_at dksX3_lengthFrom_1 17 rfl rfl)
theorem dX3_lengthFrom_41 : decode cX3_lengthFrom 41 = .ok (.ifCond .ne 28, 3) := dk_154 0 28 (dk_at dksX3_lengthFrom_1 18 rfl rfl)
theorem dX3_lengthFrom_44 : decode cX3_lengthFrom 44 = .ok (.aload_n 0, 1) := dk_42 (dk_at dksX3_lengthFrom_1 21 rfl rfl)
theorem dX3_lengthFrom_45 : decode cX3_lengthFrom 45 = .ok (.getfield 57, 3) := dk_180 0 57 (dk_at dksX3_lengthFrom_2 0 rfl rfl)
theorem dX3_lengthFrom_48 : decode cX3_lengthFrom 48 = .ok (.iload_n 1, 1) := dk_27 (dk_at dksX3_lengthFrom_2 3 rfl rfl)
theorem dX3_lengthFrom_49 : decode cX3_lengthFrom 49 = .ok (.iload_n 3, 1) := dk_29 (dk_at dksX3_lengthFrom_2 4 rfl rfl)
theorem dX3_lengthFrom_50 : decode cX3_lengthFrom 50 = .ok (.iadd, 1) := dk_96 (dk_at dksX3_lengthFrom_2 5 rfl rfl)
theorem dX3_lengthFrom_51 : decode cX3_lengthFrom 51 = .ok (.iaload, 1) := dk_46 (dk_at dksX3_lengthFrom_2 6 rfl rfl)
theorem dX3_lengthFrom_52 : decode cX3_lengthFrom 52 = .ok (.aload_n 0, 1) := dk_42 (dk_at dksX3_lengthFrom_2 7 rfl rfl)
theorem dX3_lengthFrom_53 : decode cX3_lengthFrom 53 = .ok (.getfield 60, 3) := dk_180 0 60 (dk_at dksX3_lengthFrom_2 8 rfl rfl)
theorem dX3_lengthFrom_56 : decode cX3_lengthFrom 56 = .ok (.iload_n 2, 1) := dk_28 (dk_at dksX3_lengthFrom_2 11 rfl rfl)
theorem dX3_lengthFrom_57 : decode cX3_lengthFrom 57 = .ok (.iload_n 3, 1) := dk_29 (dk_at dksX3_lengthFrom_2 12 rfl rfl)
theorem dX3_lengthFrom_58 : decode cX3_lengthFrom 58 = .ok (.iadd, 1) := dk_96 (dk_at dksX3_lengthFrom_2 13 rfl rfl)
theorem dX3_lengthFrom_59 : decode cX3_lengthFrom 59 = .ok (.iaload, 1) := dk_46 (dk_at dksX3_lengthFrom_2 14 rfl rfl)
theorem dX3_lengthFrom_60 : decode cX3_lengthFrom 60 = .ok (.if_icmp .ne 9, 3) := dk_160 0 9 (dk_at dksX3_lengthFrom_2 15 rfl rfl)
theorem dX3_lengthFrom_63 : decode cX3_lengthFrom 63 = .ok (.iinc 3 1, 3) := dk_132 3 1 (dk_at dksX3_lengthFrom_2 18 rfl rfl)
theorem dX3_lengthFrom_66 : decode cX3_lengthFrom 66 = .ok (.goto (-64), 3) := dk_167 255 192 (dk_at dksX3_lengthFrom_2 21 rfl rfl)
theorem dX3_lengthFrom_69 : decode cX3_lengthFrom 69 = .ok (.iload_n 3, 1) := dk_29 (dk_at dksX3_lengthFrom_3 0 rfl rfl)
theorem dX3_lengthFrom_70 : decode cX3_lengthFrom 70 = .ok (.ireturn, 1) := dk_172 (dk_at dksX3_lengthFrom_3 1 rfl rfl)
abbrev cX3_move : ByteArray := prog_22_method_46_code
def yX3_move : MethodName := ⟨RX3, "move", "(II)I"⟩
def dkwX3_move_2 : List UInt8 := [5, 182, 0, 130, 172]
abbrev dktX3_move_2 : List UInt8 := dkwX3_move_2 ++ []
def dkwX3_move_1 : List UInt8 := [184, 0, 119, 153, 0, 20, 42, 42, 180, 0, 66, 6, 27, 104, 28, 96, 46, 182, 0, 138, 167, 0, 8, 42]
abbrev dktX3_move_1 : List UInt8 := dkwX3_move_1 ++ dktX3_move_2
def dkwX3_move_0 : List UInt8 := [27, 3, 42, 180, 0, 230, 4, 100, 184, 0, 119, 154, 0, 9, 42, 4, 182, 0, 130, 172, 28, 3, 5]
abbrev dktX3_move_0 : List UInt8 := dkwX3_move_0 ++ dktX3_move_1
theorem dksX3_move_0 : cX3_move.data.toList.drop 0 = dktX3_move_0 := by decide +kernel
theorem dksX3_move_1 : cX3_move.data.toList.drop 23 = dktX3_move_1 := dk_seg dksX3_move_0 23 rfl rfl
theorem dksX3_move_2 : cX3_move.data.toList.drop 47 = dktX3_move_2 := dk_seg dksX3_move_1 24 rfl rfl
theorem dX3_move_0 : decode cX3_move 0 = .ok (.iload_n 1, 1) := dk_27 (dk_at dksX3_move_0 0 rfl rfl)
theorem dX3_move_1 : decode cX3_move 1 = .ok (.iconst 0, 1) := dk_3 (dk_at dksX3_move_0 1 rfl rfl)
theorem dX3_move_2 : decode cX3_move 2 = .ok (.aload_n 0, 1) := dk_42 (dk_at dksX3_move_0 2 rfl rfl)
theorem dX3_move_3 : decode cX3_move 3 = .ok (.getfield 230, 3) := dk_180 0 230 (dk_at dksX3_move_0 3 rfl rfl)
theorem dX3_move_6 : decode cX3_move 6 = .ok (.iconst 1, 1) := dk_4 (dk_at dksX3_move_0 6 rfl rfl)
theorem dX3_move_7 : decode cX3_move 7 = .ok (.isub, 1) := dk_100 (dk_at dksX3_move_0 7 rfl rfl)
theorem dX3_move_8 : decode cX3_move 8 = .ok (.invokestatic 119, 3) := dk_184 0 119 (dk_at dksX3_move_0 8 rfl rfl)
theorem dX3_move_11 : decode cX3_move 11 = .ok (.ifCond .ne 9, 3) := dk_154 0 9 (dk_at dksX3_move_0 11 rfl rfl)
theorem dX3_move_14 : decode cX3_move 14 = .ok (.aload_n 0, 1) := dk_42 (dk_at dksX3_move_0 14 rfl rfl)
theorem dX3_move_15 : decode cX3_move 15 = .ok (.iconst 1, 1) := dk_4 (dk_at dksX3_move_0 15 rfl rfl)
theorem dX3_move_16 : decode cX3_move 16 = .ok (.invokevirtual 130, 3) := dk_182 0 130 (dk_at dksX3_move_0 16 rfl rfl)
theorem dX3_move_19 : decode cX3_move 19 = .ok (.ireturn, 1) := dk_172 (dk_at dksX3_move_0 19 rfl rfl)
theorem dX3_move_20 : decode cX3_move 20 = .ok (.iload_n 2, 1) := dk_28 (dk_at dksX3_move_0 20 rfl rfl)
theorem dX3_move_21 : decode cX3_move 21 = .ok (.iconst 0, 1) := dk_3 (dk_at dksX3_move_0 21 rfl rfl)
theorem dX3_move_22 : decode cX3_move 22 = .ok (.iconst 2, 1) := dk_5 (dk_at dksX3_move_0 22 rfl rfl)
theorem dX3_move_23 : decode cX3_move 23 = .ok (.invokestatic 119, 3) := dk_184 0 119 (dk_at dksX3_move_1 0 rfl rfl)
theorem dX3_move_26 : decode cX3_move 26 = .ok (.ifCond .eq 20, 3) := dk_153 0 20 (dk_at dksX3_move_1 3 rfl rfl)
theorem dX3_move_29 : decode cX3_move 29 = .ok (.aload_n 0, 1) := dk_42 (dk_at dksX3_move_1 6 rfl rfl)
theorem dX3_move_30 : decode cX3_move 30 = .ok (.aload_n 0, 1) := dk_42 (dk_at dksX3_move_1 7 rfl rfl)
theorem dX3_move_31 : decode cX3_move 31 = .ok (.getfield 66, 3) := dk_180 0 66 (dk_at dksX3_move_1 8 rfl rfl)
theorem dX3_move_34 : decode cX3_move 34 = .ok (.iconst 3, 1) := dk_6 (dk_at dksX3_move_1 11 rfl rfl)
theorem dX3_move_35 : decode cX3_move 35 = .ok (.iload_n 1, 1) := dk_27 (dk_at dksX3_move_1 12 rfl rfl)
theorem dX3_move_36 : decode cX3_move 36 = .ok (.imul, 1) := dk_104 (dk_at dksX3_move_1 13 rfl rfl)
theorem dX3_move_37 : decode cX3_move 37 = .ok (.iload_n 2, 1) := dk_28 (dk_at dksX3_move_1 14 rfl rfl)
theorem dX3_move_38 : decode cX3_move 38 = .ok (.iadd, 1) := dk_96 (dk_at dksX3_move_1 15 rfl rfl)
theorem dX3_move_39 : decode cX3_move 39 = .ok (.iaload, 1) := dk_46 (dk_at dksX3_move_1 16 rfl rfl)
theorem dX3_move_40 : decode cX3_move 40 = .ok (.invokevirtual 138, 3) := dk_182 0 138 (dk_at dksX3_move_1 17 rfl rfl)
theorem dX3_move_43 : decode cX3_move 43 = .ok (.goto 8, 3) := dk_167 0 8 (dk_at dksX3_move_1 20 rfl rfl)
theorem dX3_move_46 : decode cX3_move 46 = .ok (.aload_n 0, 1) := dk_42 (dk_at dksX3_move_1 23 rfl rfl)
theorem dX3_move_47 : decode cX3_move 47 = .ok (.iconst 2, 1) := dk_5 (dk_at dksX3_move_2 0 rfl rfl)
theorem dX3_move_48 : decode cX3_move 48 = .ok (.invokevirtual 130, 3) := dk_182 0 130 (dk_at dksX3_move_2 1 rfl rfl)
theorem dX3_move_51 : decode cX3_move 51 = .ok (.ireturn, 1) := dk_172 (dk_at dksX3_move_2 4 rfl rfl)
abbrev cX3_setShrinking : ByteArray := prog_22_method_47_code
def yX3_setShrinking : MethodName := ⟨RX3, "setShrinking", "(Z)Z"⟩
def dkwX3_setShrinking_0 : List UInt8 := [42, 180, 0, 16, 61, 42, 27, 181, 0, 16, 42, 28, 182, 0, 148, 172]
abbrev dktX3_setShrinking_0 : List UInt8 := dkwX3_setShrinking_0 ++ []
theorem dksX3_setShrinking_0 : cX3_setShrinking.data.toList.drop 0 = dktX3_setShrinking_0 := by decide +kernel
theorem dX3_setShrinking_0 : decode cX3_setShrinking 0 = .ok (.aload_n 0, 1) := dk_42 (dk_at dksX3_setShrinking_0 0 rfl rfl)
theorem dX3_setShrinking_1 : decode cX3_setShrinking 1 = .ok (.getfield 16, 3) := dk_180 0 16 (dk_at dksX3_setShrinking_0 1 rfl rfl)
theorem dX3_setShrinking_4 : decode cX3_setShrinking 4 = .ok (.istore_n 2, 1) := dk_61 (dk_at dksX3_setShrinking_0 4 rfl rfl)
theorem dX3_setShrinking_5 : decode cX3_setShrinking 5 = .ok (.aload_n 0, 1) := dk_42 (dk_at dksX3_setShrinking_0 5 rfl rfl)
theorem dX3_setShrinking_6 : decode cX3_setShrinking 6 = .ok (.iload_n 1, 1) := dk_27 (dk_at dksX3_setShrinking_0 6 rfl rfl)
theorem dX3_setShrinking_7 : decode cX3_setShrinking 7 = .ok (.putfield 16, 3) := dk_181 0 16 (dk_at dksX3_setShrinking_0 7 rfl rfl)
theorem dX3_setShrinking_10 : decode cX3_setShrinking 10 = .ok (.aload_n 0, 1) := dk_42 (dk_at dksX3_setShrinking_0 10 rfl rfl)
theorem dX3_setShrinking_11 : decode cX3_setShrinking 11 = .ok (.iload_n 2, 1) := dk_28 (dk_at dksX3_setShrinking_0 11 rfl rfl)
theorem dX3_setShrinking_12 : decode cX3_setShrinking 12 = .ok (.invokevirtual 148, 3) := dk_182 0 148 (dk_at dksX3_setShrinking_0 12 rfl rfl)
theorem dX3_setShrinking_15 : decode cX3_setShrinking 15 = .ok (.ireturn, 1) := dk_172 (dk_at dksX3_setShrinking_0 15 rfl rfl)
abbrev cX3_merge : ByteArray := prog_22_method_52_code
def yX3_merge : MethodName := ⟨RX3, "merge", "(III)I"⟩
def dkwX3_merge_16 : List UInt8 := [54, 5, 21, 11, 4, 96, 54, 6, 132, 8, 1, 167, 255, 12, 42, 42, 180, 0, 249, 182, 0, 138, 172]
abbrev dktX3_merge_16 : List UInt8 := dkwX3_merge_16 ++ []
def dkwX3_merge_15 : List UInt8 := [96, 21, 11, 21, 11, 4, 96, 182, 0, 252, 4, 54, 7, 21, 8, 4, 96, 54, 4, 21, 10, 4, 96]
abbrev dktX3_merge_15 : List UInt8 := dkwX3_merge_15 ++ dktX3_merge_16
def dkwX3_merge_14 : List UInt8 := [16, 6, 96, 92, 46, 4, 96, 79, 167, 0, 26, 42, 3, 21, 8, 21, 8, 4, 96, 21, 10, 21, 10, 4]
abbrev dktX3_merge_14 : List UInt8 := dkwX3_merge_14 ++ dktX3_merge_15
def dkwX3_merge_13 : List UInt8 := [46, 4, 96, 79, 42, 180, 0, 94, 21, 12, 7, 96, 92, 46, 4, 96, 79, 42, 180, 0, 94, 21, 12]
abbrev dktX3_merge_13 : List UInt8 := dkwX3_merge_13 ++ dktX3_merge_14
def dkwX3_merge_12 : List UInt8 := [153, 0, 58, 16, 7, 42, 180, 0, 246, 104, 16, 7, 100, 54, 12, 42, 180, 0, 94, 21, 12, 5, 96, 92]
abbrev dktX3_merge_12 : List UInt8 := dkwX3_merge_12 ++ dktX3_merge_13
def dkwX3_merge_11 : List UInt8 := [21, 8, 21, 5, 21, 10, 21, 6, 21, 11, 182, 1, 20, 3, 54, 7, 21, 9, 154, 0, 89, 21, 7]
abbrev dktX3_merge_11 : List UInt8 := dkwX3_merge_11 ++ dktX3_merge_12
def dkwX3_merge_10 : List UInt8 := [21, 8, 21, 4, 163, 0, 17, 21, 10, 21, 5, 163, 0, 10, 21, 11, 21, 6, 164, 0, 22, 42, 21, 4]
abbrev dktX3_merge_10 : List UInt8 := dkwX3_merge_10 ++ dktX3_merge_11
def dkwX3_merge_9 : List UInt8 := [54, 10, 21, 9, 153, 0, 10, 42, 180, 1, 17, 167, 0, 10, 42, 180, 0, 91, 21, 8, 46, 54, 11]
abbrev dktX3_merge_9 : List UInt8 := dkwX3_merge_9 ++ dktX3_merge_10
def dkwX3_merge_8 : List UInt8 := [46, 155, 0, 194, 21, 9, 153, 0, 10, 42, 180, 1, 14, 167, 0, 10, 42, 180, 0, 88, 21, 8, 46]
abbrev dktX3_merge_8 : List UInt8 := dkwX3_merge_8 ++ dktX3_merge_9
def dkwX3_merge_7 : List UInt8 := [3, 54, 9, 21, 9, 154, 0, 23, 42, 180, 0, 88, 21, 8, 46, 155, 0, 204, 42, 180, 0, 91, 21, 8]
abbrev dktX3_merge_7 : List UInt8 := dkwX3_merge_7 ++ dktX3_merge_8
def dkwX3_merge_6 : List UInt8 := [54, 8, 21, 8, 42, 180, 1, 11, 163, 0, 241, 21, 8, 42, 180, 1, 11, 160, 0, 7, 4, 167, 0, 4]
abbrev dktX3_merge_6 : List UInt8 := dkwX3_merge_6 ++ dktX3_merge_7
def dkwX3_merge_5 : List UInt8 := [42, 3, 181, 0, 246, 42, 3, 181, 0, 249, 3, 54, 4, 3, 54, 5, 3, 54, 6, 3, 54, 7, 3]
abbrev dktX3_merge_5 : List UInt8 := dkwX3_merge_5 ++ dktX3_merge_6
def dkwX3_merge_4 : List UInt8 := [42, 42, 180, 0, 79, 42, 180, 1, 11, 42, 180, 0, 85, 42, 180, 1, 17, 42, 180, 0, 91, 182, 0, 223]
abbrev dktX3_merge_4 : List UInt8 := dkwX3_merge_4 ++ dktX3_merge_5
def dkwX3_merge_3 : List UInt8 := [42, 42, 180, 0, 79, 42, 180, 1, 11, 42, 180, 0, 82, 42, 180, 1, 14, 42, 180, 0, 88, 182, 0, 223]
abbrev dktX3_merge_3 : List UInt8 := dkwX3_merge_3 ++ dktX3_merge_4
def dkwX3_merge_2 : List UInt8 := [28, 42, 180, 0, 82, 182, 0, 207, 181, 1, 14, 42, 42, 29, 42, 180, 0, 85, 182, 0, 207, 181, 1, 17]
abbrev dktX3_merge_2 : List UInt8 := dkwX3_merge_2 ++ dktX3_merge_3
def dkwX3_merge_1 : List UInt8 := [182, 0, 130, 172, 42, 4, 181, 1, 8, 42, 42, 27, 42, 180, 0, 79, 182, 0, 207, 181, 1, 11, 42, 42]
abbrev dktX3_merge_1 : List UInt8 := dkwX3_merge_1 ++ dktX3_merge_2
def dkwX3_merge_0 : List UInt8 := [27, 184, 0, 126, 153, 0, 17, 28, 184, 0, 126, 153, 0, 10, 29, 184, 0, 126, 154, 0, 9, 42, 4]
abbrev dktX3_merge_0 : List UInt8 := dkwX3_merge_0 ++ dktX3_merge_1
theorem dksX3_merge_0 : cX3_merge.data.toList.drop 0 = dktX3_merge_0 := by decide +kernel
theorem dksX3_merge_1 : cX3_merge.data.toList.drop 23 = dktX3_merge_1 := dk_seg dksX3_merge_0 23 rfl rfl
theorem dksX3_merge_2 : cX3_merge.data.toList.drop 47 = dktX3_merge_2 := dk_seg dksX3_merge_1 24 rfl rfl
theorem dksX3_merge_3 : cX3_merge.data.toList.drop 71 = dktX3_merge_3 := dk_seg dksX3_merge_2 24 rfl rfl
theorem dksX3_merge_4 : cX3_merge.data.toList.drop 95 = dktX3_merge_4 := dk_seg dksX3_merge_3 24 rfl rfl
theorem dksX3_merge_5 : cX3_merge.data.toList.drop 119 = dktX3_merge_5 := dk_seg dksX3_merge_4 24 rfl rfl
theorem dksX3_merge_6 : cX3_merge.data.toList.drop 142 = dktX3_merge_6 := dk_seg dksX3_merge_5 23 rfl rfl
theorem dksX3_merge_7 : cX3_merge.data.toList.drop 166 = dktX3_merge_7 := dk_seg dksX3_merge_6 24 rfl rfl
theorem dksX3_merge_8 : cX3_merge.data.toList.drop 190 = dktX3_merge_8 := dk_seg dksX3_merge_7 24 rfl rfl
theorem dksX3_merge_9 : cX3_merge.data.toList.drop 213 = dktX3_merge_9 := dk_seg dksX3_merge_8 23 rfl rfl
theorem dksX3_merge_10 : cX3_merge.data.toList.drop 236 = dktX3_merge_10 := dk_seg dksX3_merge_9 23 rfl rfl
theorem dksX3_merge_11 : cX3_merge.data.toList.drop 260 = dktX3_merge_11 := dk_seg dksX3_merge_10 24 rfl rfl
theorem dksX3_merge_12 : cX3_merge.data.toList.drop 283 = dktX3_merge_12 := dk_seg dksX3_merge_11 23 rfl rfl
theorem dksX3_merge_13 : cX3_merge.data.toList.drop 307 = dktX3_merge_13 := dk_seg dksX3_merge_12 24 rfl rfl
theorem dksX3_merge_14 : cX3_merge.data.toList.drop 330 = dktX3_merge_14 := dk_seg dksX3_merge_13 23 rfl rfl
theorem dksX3_merge_15 : cX3_merge.data.toList.drop 354 = dktX3_merge_15 := dk_seg dksX3_merge_14 24 rfl rfl
theorem dksX3_merge_16 : cX3_merge.data.toList.drop 377 = dktX3_merge_16 := dk_seg dksX3_merge_15 23 rfl rfl
theorem dX3_merge_0 : decode cX3_merge 0 = .ok (.iload_n 1, 1) := dk_27 (dk_at dksX3_merge_0 0 rfl rfl)
theorem dX3_merge_1 : decode cX3_merge 1 = .ok (.invokestatic 126, 3) := dk_184 0 126 (dk_at dksX3_merge_0 1 rfl rfl)
theorem dX3_merge_4 : decode cX3_merge 4 = .ok (.ifCond .eq 17, 3) := dk_153 0 17 (dk_at dksX3_merge_0 4 rfl rfl)
theorem dX3_merge_7 : decode cX3_merge 7 = .ok (.iload_n 2, 1) := dk_28 (dk_at dksX3_merge_0 7 rfl rfl)
theorem dX3_merge_8 : decode cX3_merge 8 = .ok (.invokestatic 126, 3) := dk_184 0 126 (dk_at dksX3_merge_0 8 rfl rfl)
theorem dX3_merge_11 : decode cX3_merge 11 = .ok (.ifCond .eq 10, 3) := dk_153 0 10 (dk_at dksX3_merge_0 11 rfl rfl)
theorem dX3_merge_14 : decode cX3_merge 14 = .ok (.iload_n 3, 1) := dk_29 (dk_at dksX3_merge_0 14 rfl rfl)
theorem dX3_merge_15 : decode cX3_merge 15 = .ok (.invokestatic 126, 3) := dk_184 0 126 (dk_at dksX3_merge_0 15 rfl rfl)
theorem dX3_merge_18 : decode cX3_merge 18 = .ok (.ifCond .ne 9, 3) := dk_154 0 9 (dk_at dksX3_merge_0 18 rfl rfl)
theorem dX3_merge_21 : decode cX3_merge 21 = .ok (.aload_n 0, 1) := dk_42 (dk_at dksX3_merge_0 21 rfl rfl)
theorem dX3_merge_22 : decode cX3_merge 22 = .ok (.iconst 1, 1) := dk_4 (dk_at dksX3_merge_0 22 rfl rfl)
theorem dX3_merge_23 : decode cX3_merge 23 = .ok (.invokevirtual 130, 3) := dk_182 0 130 (dk_at dksX3_merge_1 0 rfl rfl)
theorem dX3_merge_26 : decode cX3_merge 26 = .ok (.ireturn, 1) := dk_172 (dk_at dksX3_merge_1 3 rfl rfl)
theorem dX3_merge_27 : decode cX3_merge 27 = .ok (.aload_n 0, 1) := dk_42 (dk_at dksX3_merge_1 4 rfl rfl)
theorem dX3_merge_28 : decode cX3_merge 28 = .ok (.iconst 1, 1) := dk_4 (dk_at dksX3_merge_1 5 rfl rfl)
theorem dX3_merge_29 : decode cX3_merge 29 = .ok (.putfield 264, 3) := dk_181 1 8 (dk_at dksX3_merge_1 6 rfl rfl)
theorem dX3_merge_32 : decode cX3_merge 32 = .ok (.aload_n 0, 1) := dk_42 (dk_at dksX3_merge_1 9 rfl rfl)
theorem dX3_merge_33 : decode cX3_merge 33 = .ok (.aload_n 0, 1) := dk_42 (dk_at dksX3_merge_1 10 rfl rfl)
theorem dX3_merge_34 : decode cX3_merge 34 = .ok (.iload_n 1, 1) := dk_27 (dk_at dksX3_merge_1 11 rfl rfl)
theorem dX3_merge_35 : decode cX3_merge 35 = .ok (.aload_n 0, 1) := dk_42 (dk_at dksX3_merge_1 12 rfl rfl)
theorem dX3_merge_36 : decode cX3_merge 36 = .ok (.getfield 79, 3) := dk_180 0 79 (dk_at dksX3_merge_1 13 rfl rfl)
theorem dX3_merge_39 : decode cX3_merge 39 = .ok (.invokevirtual 207, 3) := dk_182 0 207 (dk_at dksX3_merge_1 16 rfl rfl)
theorem dX3_merge_42 : decode cX3_merge 42 = .ok (.putfield 267, 3) := dk_181 1 11 (dk_at dksX3_merge_1 19 rfl rfl)
theorem dX3_merge_45 : decode cX3_merge 45 = .ok (.aload_n 0, 1) := dk_42 (dk_at dksX3_merge_1 22 rfl rfl)
theorem dX3_merge_46 : decode cX3_merge 46 = .ok (.aload_n 0, 1) := dk_42 (dk_at dksX3_merge_1 23 rfl rfl)
theorem dX3_merge_47 : decode cX3_merge 47 = .ok (.iload_n 2, 1) := dk_28 (dk_at dksX3_merge_2 0 rfl rfl)
theorem dX3_merge_48 : decode cX3_merge 48 = .ok (.aload_n 0, 1) := dk_42 (dk_at dksX3_merge_2 1 rfl rfl)
theorem dX3_merge_49 : decode cX3_merge 49 = .ok (.getfield 82, 3) := dk_180 0 82 (dk_at dksX3_merge_2 2 rfl rfl)
theorem dX3_merge_52 : decode cX3_merge 52 = .ok (.invokevirtual 207, 3) := dk_182 0 207 (dk_at dksX3_merge_2 5 rfl rfl)
theorem dX3_merge_55 : decode cX3_merge 55 = .ok (.putfield 270, 3) := dk_181 1 14 (dk_at dksX3_merge_2 8 rfl rfl)
theorem dX3_merge_58 : decode cX3_merge 58 = .ok (.aload_n 0, 1) := dk_42 (dk_at dksX3_merge_2 11 rfl rfl)
theorem dX3_merge_59 : decode cX3_merge 59 = .ok (.aload_n 0, 1) := dk_42 (dk_at dksX3_merge_2 12 rfl rfl)
theorem dX3_merge_60 : decode cX3_merge 60 = .ok (.iload_n 3, 1) := dk_29 (dk_at dksX3_merge_2 13 rfl rfl)
theorem dX3_merge_61 : decode cX3_merge 61 = .ok (.aload_n 0, 1) := dk_42 (dk_at dksX3_merge_2 14 rfl rfl)
theorem dX3_merge_62 : decode cX3_merge 62 = .ok (.getfield 85, 3) := dk_180 0 85 (dk_at dksX3_merge_2 15 rfl rfl)
theorem dX3_merge_65 : decode cX3_merge 65 = .ok (.invokevirtual 207, 3) := dk_182 0 207 (dk_at dksX3_merge_2 18 rfl rfl)
theorem dX3_merge_68 : decode cX3_merge 68 = .ok (.putfield 273, 3) := dk_181 1 17 (dk_at dksX3_merge_2 21 rfl rfl)
theorem dX3_merge_71 : decode cX3_merge 71 = .ok (.aload_n 0, 1) := dk_42 (dk_at dksX3_merge_3 0 rfl rfl)
theorem dX3_merge_72 : decode cX3_merge 72 = .ok (.aload_n 0, 1) := dk_42 (dk_at dksX3_merge_3 1 rfl rfl)
theorem dX3_merge_73 : decode cX3_merge 73 = .ok (.getfield 79, 3) := dk_180 0 79 (dk_at dksX3_merge_3 2 rfl rfl)
theorem dX3_merge_76 : decode cX3_merge 76 = .ok (.aload_n 0, 1) := dk_42 (dk_at dksX3_merge_3 5 rfl rfl)
theorem dX3_merge_77 : decode cX3_merge 77 = .ok (.getfield 267, 3) := dk_180 1 11 (dk_at dksX3_merge_3 6 rfl rfl)
theorem dX3_merge_80 : decode cX3_merge 80 = .ok (.aload_n 0, 1) := dk_42 (dk_at dksX3_merge_3 9 rfl rfl)
theorem dX3_merge_81 : decode cX3_merge 81 = .ok (.getfield 82, 3) := dk_180 0 82 (dk_at dksX3_merge_3 10 rfl rfl)
theorem dX3_merge_84 : decode cX3_merge 84 = .ok (.aload_n 0, 1) := dk_42 (dk_at dksX3_merge_3 13 rfl rfl)
theorem dX3_merge_85 : decode cX3_merge 85 = .ok (.getfield 270, 3) := dk_180 1 14 (dk_at dksX3_merge_3 14 rfl rfl)
theorem dX3_merge_88 : decode cX3_merge 88 = .ok (.aload_n 0, 1) := dk_42 (dk_at dksX3_merge_3 17 rfl rfl)
theorem dX3_merge_89 : decode cX3_merge 89 = .ok (.getfield 88, 3) := dk_180 0 88 (dk_at dksX3_merge_3 18 rfl rfl)
theorem dX3_merge_92 : decode cX3_merge 92 = .ok (.invokevirtual 223, 3) := dk_182 0 223 (dk_at dksX3_merge_3 21 rfl rfl)
theorem dX3_merge_95 : decode cX3_merge 95 = .ok (.aload_n 0, 1) := dk_42 (dk_at dksX3_merge_4 0 rfl rfl)
theorem dX3_merge_96 : decode cX3_merge 96 = .ok (.aload_n 0, 1) := dk_42 (dk_at dksX3_merge_4 1 rfl rfl)
theorem dX3_merge_97 : decode cX3_merge 97 = .ok (.getfield 79, 3) := dk_180 0 79 (dk_at dksX3_merge_4 2 rfl rfl)
theorem dX3_merge_100 : decode cX3_merge 100 = .ok (.aload_n 0, 1) := dk_42 (dk_at dksX3_merge_4 5 rfl rfl)
theorem dX3_merge_101 : decode cX3_merge 101 = .ok (.getfield 267, 3) := dk_180 1 11 (dk_at dksX3_merge_4 6 rfl rfl)
theorem dX3_merge_104 : decode cX3_merge 104 = .ok (.aload_n 0, 1) := dk_42 (dk_at dksX3_merge_4 9 rfl rfl)
theorem dX3_merge_105 : decode cX3_merge 105 = .ok (.getfield 85, 3) := dk_180 0 85 (dk_at dksX3_merge_4 10 rfl rfl)
theorem dX3_merge_108 : decode cX3_merge 108 = .ok (.aload_n 0, 1) := dk_42 (dk_at dksX3_merge_4 13 rfl rfl)
theorem dX3_merge_109 : decode cX3_merge 109 = .ok (.getfield 273, 3) := dk_180 1 17 (dk_at dksX3_merge_4 14 rfl rfl)
theorem dX3_merge_112 : decode cX3_merge 112 = .ok (.aload_n 0, 1) := dk_42 (dk_at dksX3_merge_4 17 rfl rfl)
theorem dX3_merge_113 : decode cX3_merge 113 = .ok (.getfield 91, 3) := dk_180 0 91 (dk_at dksX3_merge_4 18 rfl rfl)
theorem dX3_merge_116 : decode cX3_merge 116 = .ok (.invokevirtual 223, 3) := dk_182 0 223 (dk_at dksX3_merge_4 21 rfl rfl)
theorem dX3_merge_119 : decode cX3_merge 119 = .ok (.aload_n 0, 1) := dk_42 (dk_at dksX3_merge_5 0 rfl rfl)
theorem dX3_merge_120 : decode cX3_merge 120 = .ok (.iconst 0, 1) := dk_3 (dk_at dksX3_merge_5 1 rfl rfl)
theorem dX3_merge_121 : decode cX3_merge 121 = .ok (.putfield 246, 3) := dk_181 0 246 (dk_at dksX3_merge_5 2 rfl rfl)
theorem dX3_merge_124 : decode cX3_merge 124 = .ok (.aload_n 0, 1) := dk_42 (dk_at dksX3_merge_5 5 rfl rfl)
theorem dX3_merge_125 : decode cX3_merge 125 = .ok (.iconst 0, 1) := dk_3 (dk_at dksX3_merge_5 6 rfl rfl)
theorem dX3_merge_126 : decode cX3_merge 126 = .ok (.putfield 249, 3) := dk_181 0 249 (dk_at dksX3_merge_5 7 rfl rfl)
theorem dX3_merge_129 : decode cX3_merge 129 = .ok (.iconst 0, 1) := dk_3 (dk_at dksX3_merge_5 10 rfl rfl)
theorem dX3_merge_130 : decode cX3_merge 130 = .ok (.istore 4, 2) := dk_54 4 (dk_at dksX3_merge_5 11 rfl rfl)
theorem dX3_merge_132 : decode cX3_merge 132 = .ok (.iconst 0, 1) := dk_3 (dk_at dksX3_merge_5 13 rfl rfl)
theorem dX3_merge_133 : decode cX3_merge 133 = .ok (.istore 5, 2) := dk_54 5 (dk_at dksX3_merge_5 14 rfl rfl)
theorem dX3_merge_135 : decode cX3_merge 135 = .ok (.iconst 0, 1) := dk_3 (dk_at dksX3_merge_5 16 rfl rfl)
theorem dX3_merge_136 : decode cX3_merge 136 = .ok (.istore 6, 2) := dk_54 6 (dk_at dksX3_merge_5 17 rfl rfl)
theorem dX3_merge_138 : decode cX3_merge 138 = .ok (.iconst 0, 1) := dk_3 (dk_at dksX3_merge_5 19 rfl rfl)
theorem dX3_merge_139 : decode cX3_merge 139 = .ok (.istore 7, 2) := dk_54 7 (dk_at dksX3_merge_5 20 rfl rfl)
theorem dX3_merge_141 : decode cX3_merge 141 = .ok (.iconst 0, 1) := dk_3 (dk_at dksX3_merge_5 22 rfl rfl)
theorem dX3_merge_142 : decode cX3_merge 142 = .ok (.istore 8, 2) := dk_54 8 (dk_at dksX3_merge_6 0 rfl rfl)
theorem dX3_merge_144 : decode cX3_merge 144 = .ok (.iload 8, 2) := dk_21 8 (dk_at dksX3_merge_6 2 rfl rfl)
theorem dX3_merge_146 : decode cX3_merge 146 = .ok (.aload_n 0, 1) := dk_42 (dk_at dksX3_merge_6 4 rfl rfl)
theorem dX3_merge_147 : decode cX3_merge 147 = .ok (.getfield 267, 3) := dk_180 1 11 (dk_at dksX3_merge_6 5 rfl rfl)
theorem dX3_merge_150 : decode cX3_merge 150 = .ok (.if_icmp .gt 241, 3) := dk_163 0 241 (dk_at dksX3_merge_6 8 rfl rfl)
theorem dX3_merge_153 : decode cX3_merge 153 = .ok (.iload 8, 2) := dk_21 8 (dk_at dksX3_merge_6 11 rfl rfl)
theorem dX3_merge_155 : decode cX3_merge 155 = .ok (.aload_n 0, 1) := dk_42 (dk_at dksX3_merge_6 13 rfl rfl)
theorem dX3_merge_156 : decode cX3_merge 156 = .ok (.getfield 267, 3) := dk_180 1 11 (dk_at dksX3_merge_6 14 rfl rfl)
theorem dX3_merge_159 : decode cX3_merge 159 = .ok (.if_icmp .ne 7, 3) := dk_160 0 7 (dk_at dksX3_merge_6 17 rfl rfl)
theorem dX3_merge_162 : decode cX3_merge 162 = .ok (.iconst 1, 1) := dk_4 (dk_at dksX3_merge_6 20 rfl rfl)
theorem dX3_merge_163 : decode cX3_merge 163 = .ok (.goto 4, 3) := dk_167 0 4 (dk_at dksX3_merge_6 21 rfl rfl)
theorem dX3_merge_166 : decode cX3_merge 166 = .ok (.iconst 0, 1) := dk_3 (dk_at dksX3_merge_7 0 rfl rfl)
theorem dX3_merge_167 : decode cX3_merge 167 = .ok (.istore 9, 2) := dk_54 9 (dk_at dksX3_merge_7 1 rfl rfl)
theorem dX3_merge_169 : decode cX3_merge 169 = .ok (.iload 9, 2) := dk_21 9 (dk_at dksX3_merge_7 3 rfl rfl)
theorem dX3_merge_171 : decode cX3_merge 171 = .ok (.ifCond .ne 23, 3) := dk_154 0 23 (dk_at dksX3_merge_7 5 rfl rfl)
theorem dX3_merge_174 : decode cX3_merge 174 = .ok (.aload_n 0, 1) := dk_42 (dk_at dksX3_merge_7 8 rfl rfl)
theorem dX3_merge_175 : decode cX3_merge 175 = .ok (.getfield 88, 3) := dk_180 0 88 (dk_at dksX3_merge_7 9 rfl rfl)
theorem dX3_merge_178 : decode cX3_merge 178 = .ok (.iload 8, 2) := dk_21 8 (dk_at dksX3_merge_7 12 rfl rfl)
theorem dX3_merge_180 : decode cX3_merge 180 = .ok (.iaload, 1) := dk_46 (dk_at dksX3_merge_7 14 rfl rfl)
theorem dX3_merge_181 : decode cX3_merge 181 = .ok (.ifCond .lt 204, 3) := dk_155 0 204 (dk_at dksX3_merge_7 15 rfl rfl)
theorem dX3_merge_184 : decode cX3_merge 184 = .ok (.aload_n 0, 1) := dk_42 (dk_at dksX3_merge_7 18 rfl rfl)
theorem dX3_merge_185 : decode cX3_merge 185 = .ok (.getfield 91, 3) := dk_180 0 91 (dk_at dksX3_merge_7 19 rfl rfl)
theorem dX3_merge_188 : decode cX3_merge 188 = .ok (.iload 8, 2) := dk_21 8 (dk_at dksX3_merge_7 22 rfl rfl)
theorem dX3_merge_190 : decode cX3_merge 190 = .ok (.iaload, 1) := dk_46 (dk_at dksX3_merge_8 0 rfl rfl)
theorem dX3_merge_191 : decode cX3_merge 191 = .ok (.ifCond .lt 194, 3) := dk_155 0 194 (dk_at dksX3_merge_8 1 rfl rfl)
theorem dX3_merge_194 : decode cX3_merge 194 = .ok (.iload 9, 2) := dk_21 9 (dk_at dksX3_merge_8 4 rfl rfl)
theorem dX3_merge_196 : decode cX3_merge 196 = .ok (.ifCond .eq 10, 3) := dk_153 0 10 (dk_at dksX3_merge_8 6 rfl rfl)
theorem dX3_merge_199 : decode cX3_merge 199 = .ok (.aload_n 0, 1) := dk_42 (dk_at dksX3_merge_8 9 rfl rfl)
theorem dX3_merge_200 : decode cX3_merge 200 = .ok (.getfield 270, 3) := dk_180 1 14 (dk_at dksX3_merge_8 10 rfl rfl)
theorem dX3_merge_203 : decode cX3_merge 203 = .ok (.goto 10, 3) := dk_167 0 10 (dk_at dksX3_merge_8 13 rfl rfl)
theorem dX3_merge_206 : decode cX3_merge 206 = .ok (.aload_n 0, 1) := dk_42 (dk_at dksX3_merge_8 16 rfl rfl)
theorem dX3_merge_207 : decode cX3_merge 207 = .ok (.getfield 88, 3) := dk_180 0 88 (dk_at dksX3_merge_8 17 rfl rfl)
theorem dX3_merge_210 : decode cX3_merge 210 = .ok (.iload 8, 2) := dk_21 8 (dk_at dksX3_merge_8 20 rfl rfl)
theorem dX3_merge_212 : decode cX3_merge 212 = .ok (.iaload, 1) := dk_46 (dk_at dksX3_merge_8 22 rfl rfl)
theorem dX3_merge_213 : decode cX3_merge 213 = .ok (.istore 10, 2) := dk_54 10 (dk_at dksX3_merge_9 0 rfl rfl)
theorem dX3_merge_215 : decode cX3_merge 215 = .ok (.iload 9, 2) := dk_21 9 (dk_at dksX3_merge_9 2 rfl rfl)
theorem dX3_merge_217 : decode cX3_merge 217 = .ok (.ifCond .eq 10, 3) := dk_153 0 10 (dk_at dksX3_merge_9 4 rfl rfl)
theorem dX3_merge_220 : decode cX3_merge 220 = .ok (.aload_n 0, 1) := dk_42 (dk_at dksX3_merge_9 7 rfl rfl)
theorem dX3_merge_221 : decode cX3_merge 221 = .ok (.getfield 273, 3) := dk_180 1 17 (dk_at dksX3_merge_9 8 rfl rfl)
theorem dX3_merge_224 : decode cX3_merge 224 = .ok (.goto 10, 3) := dk_167 0 10 (dk_at dksX3_merge_9 11 rfl rfl)
theorem dX3_merge_227 : decode cX3_merge 227 = .ok (.aload_n 0, 1) := dk_42 (dk_at dksX3_merge_9 14 rfl rfl)
theorem dX3_merge_228 : decode cX3_merge 228 = .ok (.getfield 91, 3) := dk_180 0 91 (dk_at dksX3_merge_9 15 rfl rfl)
theorem dX3_merge_231 : decode cX3_merge 231 = .ok (.iload 8, 2) := dk_21 8 (dk_at dksX3_merge_9 18 rfl rfl)
theorem dX3_merge_233 : decode cX3_merge 233 = .ok (.iaload, 1) := dk_46 (dk_at dksX3_merge_9 20 rfl rfl)
theorem dX3_merge_234 : decode cX3_merge 234 = .ok (.istore 11, 2) := dk_54 11 (dk_at dksX3_merge_9 21 rfl rfl)
theorem dX3_merge_236 : decode cX3_merge 236 = .ok (.iload 8, 2) := dk_21 8 (dk_at dksX3_merge_10 0 rfl rfl)
theorem dX3_merge_238 : decode cX3_merge 238 = .ok (.iload 4, 2) := dk_21 4 (dk_at dksX3_merge_10 2 rfl rfl)
theorem dX3_merge_240 : decode cX3_merge 240 = .ok (.if_icmp .gt 17, 3) := dk_163 0 17 (dk_at dksX3_merge_10 4 rfl rfl)
theorem dX3_merge_243 : decode cX3_merge 243 = .ok (.iload 10, 2) := dk_21 10 (dk_at dksX3_merge_10 7 rfl rfl)
theorem dX3_merge_245 : decode cX3_merge 245 = .ok (.iload 5, 2) := dk_21 5 (dk_at dksX3_merge_10 9 rfl rfl)
theorem dX3_merge_247 : decode cX3_merge 247 = .ok (.if_icmp .gt 10, 3) := dk_163 0 10 (dk_at dksX3_merge_10 11 rfl rfl)
theorem dX3_merge_250 : decode cX3_merge 250 = .ok (.iload 11, 2) := dk_21 11 (dk_at dksX3_merge_10 14 rfl rfl)
theorem dX3_merge_252 : decode cX3_merge 252 = .ok (.iload 6, 2) := dk_21 6 (dk_at dksX3_merge_10 16 rfl rfl)
theorem dX3_merge_254 : decode cX3_merge 254 = .ok (.if_icmp .le 22, 3) := dk_164 0 22 (dk_at dksX3_merge_10 18 rfl rfl)
theorem dX3_merge_257 : decode cX3_merge 257 = .ok (.aload_n 0, 1) := dk_42 (dk_at dksX3_merge_10 21 rfl rfl)
theorem dX3_merge_258 : decode cX3_merge 258 = .ok (.iload 4, 2) := dk_21 4 (dk_at dksX3_merge_10 22 rfl rfl)
theorem dX3_merge_260 : decode cX3_merge 260 = .ok (.iload 8, 2) := dk_21 8 (dk_at dksX3_merge_11 0 rfl rfl)
theorem dX3_merge_262 : decode cX3_merge 262 = .ok (.iload 5, 2) := dk_21 5 (dk_at dksX3_merge_11 2 rfl rfl)
theorem dX3_merge_264 : decode cX3_merge 264 = .ok (.iload 10, 2) := dk_21 10 (dk_at dksX3_merge_11 4 rfl rfl)
theorem dX3_merge_266 : decode cX3_merge 266 = .ok (.iload 6, 2) := dk_21 6 (dk_at dksX3_merge_11 6 rfl rfl)
theorem dX3_merge_268 : decode cX3_merge 268 = .ok (.iload 11, 2) := dk_21 11 (dk_at dksX3_merge_11 8 rfl rfl)
theorem dX3_merge_270 : decode cX3_merge 270 = .ok (.invokevirtual 276, 3) := dk_182 1 20 (dk_at dksX3_merge_11 10 rfl rfl)
theorem dX3_merge_273 : decode cX3_merge 273 = .ok (.iconst 0, 1) := dk_3 (dk_at dksX3_merge_11 13 rfl rfl)
theorem dX3_merge_274 : decode cX3_merge 274 = .ok (.istore 7, 2) := dk_54 7 (dk_at dksX3_merge_11 14 rfl rfl)
theorem dX3_merge_276 : decode cX3_merge 276 = .ok (.iload 9, 2) := dk_21 9 (dk_at dksX3_merge_11 16 rfl rfl)
theorem dX3_merge_278 : decode cX3_merge 278 = .ok (.ifCond .ne 89, 3) := dk_154 0 89 (dk_at dksX3_merge_11 18 rfl rfl)
theorem dX3_merge_281 : decode cX3_merge 281 = .ok (.iload 7, 2) := dk_21 7 (dk_at dksX3_merge_11 21 rfl rfl)
theorem dX3_merge_283 : decode cX3_merge 283 = .ok (.ifCond .eq 58, 3) := dk_153 0 58 (dk_at dksX3_merge_12 0 rfl rfl)
theorem dX3_merge_286 : decode cX3_merge 286 = .ok (.bipush 7, 2) := dk_16 7 (dk_at dksX3_merge_12 3 rfl rfl)
theorem dX3_merge_288 : decode cX3_merge 288 = .ok (.aload_n 0, 1) := dk_42 (dk_at dksX3_merge_12 5 rfl rfl)
theorem dX3_merge_289 : decode cX3_merge 289 = .ok (.getfield 246, 3) := dk_180 0 246 (dk_at dksX3_merge_12 6 rfl rfl)
theorem dX3_merge_292 : decode cX3_merge 292 = .ok (.imul, 1) := dk_104 (dk_at dksX3_merge_12 9 rfl rfl)
theorem dX3_merge_293 : decode cX3_merge 293 = .ok (.bipush 7, 2) := dk_16 7 (dk_at dksX3_merge_12 10 rfl rfl)
theorem dX3_merge_295 : decode cX3_merge 295 = .ok (.isub, 1) := dk_100 (dk_at dksX3_merge_12 12 rfl rfl)
theorem dX3_merge_296 : decode cX3_merge 296 = .ok (.istore 12, 2) := dk_54 12 (dk_at dksX3_merge_12 13 rfl rfl)
theorem dX3_merge_298 : decode cX3_merge 298 = .ok (.aload_n 0, 1) := dk_42 (dk_at dksX3_merge_12 15 rfl rfl)
theorem dX3_merge_299 : decode cX3_merge 299 = .ok (.getfield 94, 3) := dk_180 0 94 (dk_at dksX3_merge_12 16 rfl rfl)
theorem dX3_merge_302 : decode cX3_merge 302 = .ok (.iload 12, 2) := dk_21 12 (dk_at dksX3_merge_12 19 rfl rfl)
theorem dX3_merge_304 : decode cX3_merge 304 = .ok (.iconst 2, 1) := dk_5 (dk_at dksX3_merge_12 21 rfl rfl)
theorem dX3_merge_305 : decode cX3_merge 305 = .ok (.iadd, 1) := dk_96 (dk_at dksX3_merge_12 22 rfl rfl)
theorem dX3_merge_306 : decode cX3_merge 306 = .ok (.dup2, 1) := dk_92 (dk_at dksX3_merge_12 23 rfl rfl)
theorem dX3_merge_307 : decode cX3_merge 307 = .ok (.iaload, 1) := dk_46 (dk_at dksX3_merge_13 0 rfl rfl)
theorem dX3_merge_308 : decode cX3_merge 308 = .ok (.iconst 1, 1) := dk_4 (dk_at dksX3_merge_13 1 rfl rfl)
theorem dX3_merge_309 : decode cX3_merge 309 = .ok (.iadd, 1) := dk_96 (dk_at dksX3_merge_13 2 rfl rfl)
theorem dX3_merge_310 : decode cX3_merge 310 = .ok (.iastore, 1) := dk_79 (dk_at dksX3_merge_13 3 rfl rfl)
theorem dX3_merge_311 : decode cX3_merge 311 = .ok (.aload_n 0, 1) := dk_42 (dk_at dksX3_merge_13 4 rfl rfl)
theorem dX3_merge_312 : decode cX3_merge 312 = .ok (.getfield 94, 3) := dk_180 0 94 (dk_at dksX3_merge_13 5 rfl rfl)
theorem dX3_merge_315 : decode cX3_merge 315 = .ok (.iload 12, 2) := dk_21 12 (dk_at dksX3_merge_13 8 rfl rfl)
theorem dX3_merge_317 : decode cX3_merge 317 = .ok (.iconst 4, 1) := dk_7 (dk_at dksX3_merge_13 10 rfl rfl)
theorem dX3_merge_318 : decode cX3_merge 318 = .ok (.iadd, 1) := dk_96 (dk_at dksX3_merge_13 11 rfl rfl)
theorem dX3_merge_319 : decode cX3_merge 319 = .ok (.dup2, 1) := dk_92 (dk_at dksX3_merge_13 12 rfl rfl)
theorem dX3_merge_320 : decode cX3_merge 320 = .ok (.iaload, 1) := dk_46 (dk_at dksX3_merge_13 13 rfl rfl)
theorem dX3_merge_321 : decode cX3_merge 321 = .ok (.iconst 1, 1) := dk_4 (dk_at dksX3_merge_13 14 rfl rfl)
theorem dX3_merge_322 : decode cX3_merge 322 = .ok (.iadd, 1) := dk_96 (dk_at dksX3_merge_13 15 rfl rfl)
theorem dX3_merge_323 : decode cX3_merge 323 = .ok (.iastore, 1) := dk_79 (dk_at dksX3_merge_13 16 rfl rfl)
theorem dX3_merge_324 : decode cX3_merge 324 = .ok (.aload_n 0, 1) := dk_42 (dk_at dksX3_merge_13 17 rfl rfl)
theorem dX3_merge_325 : decode cX3_merge 325 = .ok (.getfield 94, 3) := dk_180 0 94 (dk_at dksX3_merge_13 18 rfl rfl)
theorem dX3_merge_328 : decode cX3_merge 328 = .ok (.iload 12, 2) := dk_21 12 (dk_at dksX3_merge_13 21 rfl rfl)
theorem dX3_merge_330 : decode cX3_merge 330 = .ok (.bipush 6, 2) := dk_16 6 (dk_at dksX3_merge_14 0 rfl rfl)
theorem dX3_merge_332 : decode cX3_merge 332 = .ok (.iadd, 1) := dk_96 (dk_at dksX3_merge_14 2 rfl rfl)
theorem dX3_merge_333 : decode cX3_merge 333 = .ok (.dup2, 1) := dk_92 (dk_at dksX3_merge_14 3 rfl rfl)
theorem dX3_merge_334 : decode cX3_merge 334 = .ok (.iaload, 1) := dk_46 (dk_at dksX3_merge_14 4 rfl rfl)
theorem dX3_merge_335 : decode cX3_merge 335 = .ok (.iconst 1, 1) := dk_4 (dk_at dksX3_merge_14 5 rfl rfl)
theorem dX3_merge_336 : decode cX3_merge 336 = .ok (.iadd, 1) := dk_96 (dk_at dksX3_merge_14 6 rfl rfl)
theorem dX3_merge_337 : decode cX3_merge 337 = .ok (.iastore, 1) := dk_79 (dk_at dksX3_merge_14 7 rfl rfl)
theorem dX3_merge_338 : decode cX3_merge 338 = .ok (.goto 26, 3) := dk_167 0 26 (dk_at dksX3_merge_14 8 rfl rfl)
theorem dX3_merge_341 : decode cX3_merge 341 = .ok (.aload_n 0, 1) := dk_42 (dk_at dksX3_merge_14 11 rfl rfl)
theorem dX3_merge_342 : decode cX3_merge 342 = .ok (.iconst 0, 1) := dk_3 (dk_at dksX3_merge_14 12 rfl rfl)
theorem dX3_merge_343 : decode cX3_merge 343 = .ok (.iload 8, 2) := dk_21 8 (dk_at dksX3_merge_14 13 rfl rfl)
theorem dX3_merge_345 : decode cX3_merge 345 = .ok (.iload 8, 2) := dk_21 8 (dk_at dksX3_merge_14 15 rfl rfl)
theorem dX3_merge_347 : decode cX3_merge 347 = .ok (.iconst 1, 1) := dk_4 (dk_at dksX3_merge_14 17 rfl rfl)
theorem dX3_merge_348 : decode cX3_merge 348 = .ok (.iadd, 1) := dk_96 (dk_at dksX3_merge_14 18 rfl rfl)
theorem dX3_merge_349 : decode cX3_merge 349 = .ok (.iload 10, 2) := dk_21 10 (dk_at dksX3_merge_14 19 rfl rfl)
theorem dX3_merge_351 : decode cX3_merge 351 = .ok (.iload 10, 2) := dk_21 10 (dk_at dksX3_merge_14 21 rfl rfl)
theorem dX3_merge_353 : decode cX3_merge 353 = .ok (.iconst 1, 1) := dk_4 (dk_at dksX3_merge_14 23 rfl rfl)
theorem dX3_merge_354 : decode cX3_merge 354 = .ok (.iadd, 1) := dk_96 (dk_at dksX3_merge_15 0 rfl rfl)
theorem dX3_merge_355 : decode cX3_merge 355 = .ok (.iload 11, 2) := dk_21 11 (dk_at dksX3_merge_15 1 rfl rfl)
theorem dX3_merge_357 : decode cX3_merge 357 = .ok (.iload 11, 2) := dk_21 11 (dk_at dksX3_merge_15 3 rfl rfl)
theorem dX3_merge_359 : decode cX3_merge 359 = .ok (.iconst 1, 1) := dk_4 (dk_at dksX3_merge_15 5 rfl rfl)
theorem dX3_merge_360 : decode cX3_merge 360 = .ok (.iadd, 1) := dk_96 (dk_at dksX3_merge_15 6 rfl rfl)
theorem dX3_merge_361 : decode cX3_merge 361 = .ok (.invokevirtual 252, 3) := dk_182 0 252 (dk_at dksX3_merge_15 7 rfl rfl)
theorem dX3_merge_364 : decode cX3_merge 364 = .ok (.iconst 1, 1) := dk_4 (dk_at dksX3_merge_15 10 rfl rfl)
theorem dX3_merge_365 : decode cX3_merge 365 = .ok (.istore 7, 2) := dk_54 7 (dk_at dksX3_merge_15 11 rfl rfl)
theorem dX3_merge_367 : decode cX3_merge 367 = .ok (.iload 8, 2) := dk_21 8 (dk_at dksX3_merge_15 13 rfl rfl)
theorem dX3_merge_369 : decode cX3_merge 369 = .ok (.iconst 1, 1) := dk_4 (dk_at dksX3_merge_15 15 rfl rfl)
theorem dX3_merge_370 : decode cX3_merge 370 = .ok (.iadd, 1) := dk_96 (dk_at dksX3_merge_15 16 rfl rfl)
theorem dX3_merge_371 : decode cX3_merge 371 = .ok (.istore 4, 2) := dk_54 4 (dk_at dksX3_merge_15 17 rfl rfl)
theorem dX3_merge_373 : decode cX3_merge 373 = .ok (.iload 10, 2) := dk_21 10 (dk_at dksX3_merge_15 19 rfl rfl)
theorem dX3_merge_375 : decode cX3_merge 375 = .ok (.iconst 1, 1) := dk_4 (dk_at dksX3_merge_15 21 rfl rfl)
theorem dX3_merge_376 : decode cX3_merge 376 = .ok (.iadd, 1) := dk_96 (dk_at dksX3_merge_15 22 rfl rfl)
theorem dX3_merge_377 : decode cX3_merge 377 = .ok (.istore 5, 2) := dk_54 5 (dk_at dksX3_merge_16 0 rfl rfl)
theorem dX3_merge_379 : decode cX3_merge 379 = .ok (.iload 11, 2) := dk_21 11 (dk_at dksX3_merge_16 2 rfl rfl)
theorem dX3_merge_381 : decode cX3_merge 381 = .ok (.iconst 1, 1) := dk_4 (dk_at dksX3_merge_16 4 rfl rfl)
theorem dX3_merge_382 : decode cX3_merge 382 = .ok (.iadd, 1) := dk_96 (dk_at dksX3_merge_16 5 rfl rfl)
theorem dX3_merge_383 : decode cX3_merge 383 = .ok (.istore 6, 2) := dk_54 6 (dk_at dksX3_merge_16 6 rfl rfl)
theorem dX3_merge_385 : decode cX3_merge 385 = .ok (.iinc 8 1, 3) := dk_132 8 1 (dk_at dksX3_merge_16 8 rfl rfl)
theorem dX3_merge_388 : decode cX3_merge 388 = .ok (.goto (-244), 3) := dk_167 255 12 (dk_at dksX3_merge_16 11 rfl rfl)
theorem dX3_merge_391 : decode cX3_merge 391 = .ok (.aload_n 0, 1) := dk_42 (dk_at dksX3_merge_16 14 rfl rfl)
theorem dX3_merge_392 : decode cX3_merge 392 = .ok (.aload_n 0, 1) := dk_42 (dk_at dksX3_merge_16 15 rfl rfl)
theorem dX3_merge_393 : decode cX3_merge 393 = .ok (.getfield 249, 3) := dk_180 0 249 (dk_at dksX3_merge_16 16 rfl rfl)
theorem dX3_merge_396 : decode cX3_merge 396 = .ok (.invokevirtual 138, 3) := dk_182 0 138 (dk_at dksX3_merge_16 19 rfl rfl)
theorem dX3_merge_399 : decode cX3_merge 399 = .ok (.ireturn, 1) := dk_172 (dk_at dksX3_merge_16 22 rfl rfl)
abbrev cX3_regionComes : ByteArray := prog_22_method_51_code
def yX3_regionComes : MethodName := ⟨RX3, "regionComes", "(IIIIII)V"⟩
def dkwX3_regionComes_5 : List UInt8 := [21, 5, 21, 6, 182, 1, 4, 177]
abbrev dktX3_regionComes_5 : List UInt8 := dkwX3_regionComes_5 ++ []
def dkwX3_regionComes_4 : List UInt8 := [42, 6, 27, 28, 29, 21, 4, 21, 5, 21, 6, 182, 0, 252, 167, 0, 16, 42, 27, 28, 29, 21, 4]
abbrev dktX3_regionComes_4 : List UInt8 := dkwX3_regionComes_4 ++ dktX3_regionComes_5
def dkwX3_regionComes_3 : List UInt8 := [167, 0, 54, 42, 180, 0, 82, 29, 21, 4, 42, 180, 0, 85, 21, 5, 21, 6, 184, 1, 0, 153, 0, 20]
abbrev dktX3_regionComes_3 : List UInt8 := dkwX3_regionComes_3 ++ dktX3_regionComes_4
def dkwX3_regionComes_2 : List UInt8 := [27, 28, 184, 1, 0, 153, 0, 20, 42, 4, 27, 28, 29, 21, 4, 21, 5, 21, 6, 182, 0, 252]
abbrev dktX3_regionComes_2 : List UInt8 := dkwX3_regionComes_2 ++ dktX3_regionComes_3
def dkwX3_regionComes_1 : List UInt8 := [21, 4, 21, 5, 21, 6, 182, 0, 252, 167, 0, 91, 42, 180, 0, 85, 21, 5, 21, 6, 42, 180, 0, 79]
abbrev dktX3_regionComes_1 : List UInt8 := dkwX3_regionComes_1 ++ dktX3_regionComes_2
def dkwX3_regionComes_0 : List UInt8 := [42, 180, 0, 82, 29, 21, 4, 42, 180, 0, 79, 27, 28, 184, 1, 0, 153, 0, 20, 42, 5, 27, 28, 29]
abbrev dktX3_regionComes_0 : List UInt8 := dkwX3_regionComes_0 ++ dktX3_regionComes_1
theorem dksX3_regionComes_0 : cX3_regionComes.data.toList.drop 0 = dktX3_regionComes_0 := by decide +kernel
theorem dksX3_regionComes_1 : cX3_regionComes.data.toList.drop 24 = dktX3_regionComes_1 := dk_seg dksX3_regionComes_0 24 rfl rfl
theorem dksX3_regionComes_2 : cX3_regionComes.data.toList.drop 48 = dktX3_regionComes_2 := dk_seg dksX3_regionComes_1 24 rfl rfl
theorem dksX3_regionComes_3 : cX3_regionComes.data.toList.drop 70 = dktX3_regionComes_3 := dk_seg dksX3_regionComes_2 22 rfl rfl
theorem dksX3_regionComes_4 : cX3_regionComes.data.toList.drop 94 = dktX3_regionComes_4 := dk_seg dksX3_regionComes_3 24 rfl rfl
theorem dksX3_regionComes_5 : cX3_regionComes.data.toList.drop 117 = dktX3_regionComes_5 := dk_seg dksX3_regionComes_4 23 rfl rfl
theorem dX3_regionComes_0 : decode cX3_regionComes 0 = .ok (.aload_n 0, 1) := dk_42 (dk_at dksX3_regionComes_0 0 rfl rfl)
theorem dX3_regionComes_1 : decode cX3_regionComes 1 = .ok (.getfield 82, 3) := dk_180 0 82 (dk_at dksX3_regionComes_0 1 rfl rfl)
theorem dX3_regionComes_4 : decode cX3_regionComes 4 = .ok (.iload_n 3, 1) := dk_29 (dk_at dksX3_regionComes_0 4 rfl rfl)
theorem dX3_regionComes_5 : decode cX3_regionComes 5 = .ok (.iload 4, 2) := dk_21 4 (dk_at dksX3_regionComes_0 5 rfl rfl)
theorem dX3_regionComes_7 : decode cX3_regionComes 7 = .ok (.aload_n 0, 1) := dk_42 (dk_at dksX3_regionComes_0 7 rfl rfl)
theorem dX3_regionComes_8 : decode cX3_regionComes 8 = .ok (.getfield 79, 3) := dk_180 0 79 (dk_at dksX3_regionComes_0 8 rfl rfl)
theorem dX3_regionComes_11 : decode cX3_regionComes 11 = .ok (.iload_n 1, 1) := dk_27 (dk_at dksX3_regionComes_0 11 rfl rfl)
theorem dX3_regionComes_12 : decode cX3_regionComes 12 = .ok (.iload_n 2, 1) := dk_28 (dk_at dksX3_regionComes_0 12 rfl rfl)
theorem dX3_regionComes_13 : decode cX3_regionComes 13 = .ok (.invokestatic 256, 3) := dk_184 1 0 (dk_at dksX3_regionComes_0 13 rfl rfl)
theorem dX3_regionComes_16 : decode cX3_regionComes 16 = .ok (.ifCond .eq 20, 3) := dk_153 0 20 (dk_at dksX3_regionComes_0 16 rfl rfl)
theorem dX3_regionComes_19 : decode cX3_regionComes 19 = .ok (.aload_n 0, 1) := dk_42 (dk_at dksX3_regionComes_0 19 rfl rfl)
theorem dX3_regionComes_20 : decode cX3_regionComes 20 = .ok (.iconst 2, 1) := dk_5 (dk_at dksX3_regionComes_0 20 rfl rfl)
theorem dX3_regionComes_21 : decode cX3_regionComes 21 = .ok (.iload_n 1, 1) := dk_27 (dk_at dksX3_regionComes_0 21 rfl rfl)
theorem dX3_regionComes_22 : decode cX3_regionComes 22 = .ok (.iload_n 2, 1) := dk_28 (dk_at dksX3_regionComes_0 22 rfl rfl)
theorem dX3_regionComes_23 : decode cX3_regionComes 23 = .ok (.iload_n 3, 1) := dk_29 (dk_at dksX3_regionComes_0 23 rfl rfl)
theorem dX3_regionComes_24 : decode cX3_regionComes 24 = .ok (.iload 4, 2) := dk_21 4 (dk_at dksX3_regionComes_1 0 rfl rfl)
theorem dX3_regionComes_26 : decode cX3_regionComes 26 = .ok (.iload 5, 2) := dk_21 5 (dk_at dksX3_regionComes_1 2 rfl rfl)
theorem dX3_regionComes_28 : decode cX3_regionComes 28 = .ok (.iload 6, 2) := dk_21 6 (dk_at dksX3_regionComes_1 4 rfl rfl)
theorem dX3_regionComes_30 : decode cX3_regionComes 30 = .ok (.invokevirtual 252, 3) := dk_182 0 252 (dk_at dksX3_regionComes_1 6 rfl rfl)
theorem dX3_regionComes_33 : decode cX3_regionComes 33 = .ok (.goto 91, 3) := dk_167 0 91 (dk_at dksX3_regionComes_1 9 rfl rfl)
theorem dX3_regionComes_36 : decode cX3_regionComes 36 = .ok (.aload_n 0, 1) := dk_42 (dk_at dksX3_regionComes_1 12 rfl rfl)
theorem dX3_regionComes_37 : decode cX3_regionComes 37 = .ok (.getfield 85, 3) := dk_180 0 85 (dk_at dksX3_regionComes_1 13 rfl rfl)
theorem dX3_regionComes_40 : decode cX3_regionComes 40 = .ok (.iload 5, 2) := dk_21 5 (dk_at dksX3_regionComes_1 16 rfl rfl)
theorem dX3_regionComes_42 : decode cX3_regionComes 42 = .ok (.iload 6, 2) := dk_21 6 (dk_at dksX3_regionComes_1 18 rfl rfl)
theorem dX3_regionComes_44 : decode cX3_regionComes 44 = .ok (.aload_n 0, 1) := dk_42 (dk_at dksX3_regionComes_1 20 rfl rfl)
theorem dX3_regionComes_45 : decode cX3_regionComes 45 = .ok (.getfield 79, 3) := dk_180 0 79 (dk_at dksX3_regionComes_1 21 rfl rfl)
theorem dX3_regionComes_48 : decode cX3_regionComes 48 = .ok (.iload_n 1, 1) := dk_27 (dk_at dksX3_regionComes_2 0 rfl rfl)
theorem dX3_regionComes_49 : decode cX3_regionComes 49 = .ok (.iload_n 2, 1) := dk_28 (dk_at dksX3_regionComes_2 1 rfl rfl)
theorem dX3_regionComes_50 : decode cX3_regionComes 50 = .ok (.invokestatic 256, 3) := dk_184 1 0 (dk_at dksX3_regionComes_2 2 rfl rfl)
theorem dX3_regionComes_53 : decode cX3_regionComes 53 = .ok (.ifCond .eq 20, 3) := dk_153 0 20 (dk_at dksX3_regionComes_2 5 rfl rfl)
theorem dX3_regionComes_56 : decode cX3_regionComes 56 = .ok (.aload_n 0, 1) := dk_42 (dk_at dksX3_regionComes_2 8 rfl rfl)
theorem dX3_regionComes_57 : decode cX3_regionComes 57 = .ok (.iconst 1, 1) := dk_4 (dk_at dksX3_regionComes_2 9 rfl rfl)
theorem dX3_regionComes_58 : decode cX3_regionComes 58 = .ok (.iload_n 1, 1) := dk_27 (dk_at dksX3_regionComes_2 10 rfl rfl)
theorem dX3_regionComes_59 : decode cX3_regionComes 59 = .ok (.iload_n 2, 1) := dk_28 (dk_at dksX3_regionComes_2 11 rfl rfl)
theorem dX3_regionComes_60 : decode cX3_regionComes 60 = .ok (.iload_n 3, 1) := dk_29 (dk_at dksX3_regionComes_2 12 rfl rfl)
theorem dX3_regionComes_61 : decode cX3_regionComes 61 = .ok (.iload 4, 2) := dk_21 4 (dk_at dksX3_regionComes_2 13 rfl rfl)
theorem dX3_regionComes_63 : decode cX3_regionComes 63 = .ok (.iload 5, 2) := dk_21 5 (dk_at dksX3_regionComes_2 15 rfl rfl)
theorem dX3_regionComes_65 : decode cX3_regionComes 65 = .ok (.iload 6, 2) := dk_21 6 (dk_at dksX3_regionComes_2 17 rfl rfl)
theorem dX3_regionComes_67 : decode cX3_regionComes 67 = .ok (.invokevirtual 252, 3) := dk_182 0 252 (dk_at dksX3_regionComes_2 19 rfl rfl)
theorem dX3_regionComes_70 : decode cX3_regionComes 70 = .ok (.goto 54, 3) := dk_167 0 54 (dk_at dksX3_regionComes_3 0 rfl rfl)
theorem dX3_regionComes_73 : decode cX3_regionComes 73 = .ok (.aload_n 0, 1) := dk_42 (dk_at dksX3_regionComes_3 3 rfl rfl)
theorem dX3_regionComes_74 : decode cX3_regionComes 74 = .ok (.getfield 82, 3) := dk_180 0 82 (dk_at dksX3_regionComes_3 4 rfl rfl)
theorem dX3_regionComes_77 : decode cX3_regionComes 77 = .ok (.iload_n 3, 1) := dk_29 (dk_at dksX3_regionComes_3 7 rfl rfl)
theorem dX3_regionComes_78 : decode cX3_regionComes 78 = .ok (.iload 4, 2) := dk_21 4 (dk_at dksX3_regionComes_3 8 rfl rfl)
theorem dX3_regionComes_80 : decode cX3_regionComes 80 = .ok (.aload_n 0, 1) := dk_42 (dk_at dksX3_regionComes_3 10 rfl rfl)
theorem dX3_regionComes_81 : decode cX3_regionComes 81 = .ok (.getfield 85, 3) := dk_180 0 85 (dk_at dksX3_regionComes_3 11 rfl rfl)
theorem dX3_regionComes_84 : decode cX3_regionComes 84 = .ok (.iload 5, 2) := dk_21 5 (dk_at dksX3_regionComes_3 14 rfl rfl)
theorem dX3_regionComes_86 : decode cX3_regionComes 86 = .ok (.iload 6, 2) := dk_21 6 (dk_at dksX3_regionComes_3 16 rfl rfl)
theorem dX3_regionComes_88 : decode cX3_regionComes 88 = .ok (.invokestatic 256, 3) := dk_184 1 0 (dk_at dksX3_regionComes_3 18 rfl rfl)
theorem dX3_regionComes_91 : decode cX3_regionComes 91 = .ok (.ifCond .eq 20, 3) := dk_153 0 20 (dk_at dksX3_regionComes_3 21 rfl rfl)
theorem dX3_regionComes_94 : decode cX3_regionComes 94 = .ok (.aload_n 0, 1) := dk_42 (dk_at dksX3_regionComes_4 0 rfl rfl)
theorem dX3_regionComes_95 : decode cX3_regionComes 95 = .ok (.iconst 3, 1) := dk_6 (dk_at dksX3_regionComes_4 1 rfl rfl)
theorem dX3_regionComes_96 : decode cX3_regionComes 96 = .ok (.iload_n 1, 1) := dk_27 (dk_at dksX3_regionComes_4 2 rfl rfl)
theorem dX3_regionComes_97 : decode cX3_regionComes 97 = .ok (.iload_n 2, 1) := dk_28 (dk_at dksX3_regionComes_4 3 rfl rfl)
theorem dX3_regionComes_98 : decode cX3_regionComes 98 = .ok (.iload_n 3, 1) := dk_29 (dk_at dksX3_regionComes_4 4 rfl rfl)
theorem dX3_regionComes_99 : decode cX3_regionComes 99 = .ok (.iload 4, 2) := dk_21 4 (dk_at dksX3_regionComes_4 5 rfl rfl)
theorem dX3_regionComes_101 : decode cX3_regionComes 101 = .ok (.iload 5, 2) := dk_21 5 (dk_at dksX3_regionComes_4 7 rfl rfl)
theorem dX3_regionComes_103 : decode cX3_regionComes 103 = .ok (.iload 6, 2) := dk_21 6 (dk_at dksX3_regionComes_4 9 rfl rfl)
theorem dX3_regionComes_105 : decode cX3_regionComes 105 = .ok (.invokevirtual 252, 3) := dk_182 0 252 (dk_at dksX3_regionComes_4 11 rfl rfl)
theorem dX3_regionComes_108 : decode cX3_regionComes 108 = .ok (.goto 16, 3) := dk_167 0 16 (dk_at dksX3_regionComes_4 14 rfl rfl)
theorem dX3_regionComes_111 : decode cX3_regionComes 111 = .ok (.aload_n 0, 1) := dk_42 (dk_at dksX3_regionComes_4 17 rfl rfl)
theorem dX3_regionComes_112 : decode cX3_regionComes 112 = .ok (.iload_n 1, 1) := dk_27 (dk_at dksX3_regionComes_4 18 rfl rfl)
theorem dX3_regionComes_113 : decode cX3_regionComes 113 = .ok (.iload_n 2, 1) := dk_28 (dk_at dksX3_regionComes_4 19 rfl rfl)
theorem dX3_regionComes_114 : decode cX3_regionComes 114 = .ok (.iload_n 3, 1) := dk_29 (dk_at dksX3_regionComes_4 20 rfl rfl)
theorem dX3_regionComes_115 : decode cX3_regionComes 115 = .ok (.iload 4, 2) := dk_21 4 (dk_at dksX3_regionComes_4 21 rfl rfl)
theorem dX3_regionComes_117 : decode cX3_regionComes 117 = .ok (.iload 5, 2) := dk_21 5 (dk_at dksX3_regionComes_5 0 rfl rfl)
theorem dX3_regionComes_119 : decode cX3_regionComes 119 = .ok (.iload 6, 2) := dk_21 6 (dk_at dksX3_regionComes_5 2 rfl rfl)
theorem dX3_regionComes_121 : decode cX3_regionComes 121 = .ok (.invokevirtual 260, 3) := dk_182 1 4 (dk_at dksX3_regionComes_5 4 rfl rfl)
theorem dX3_regionComes_124 : decode cX3_regionComes 124 = .ok (.return_, 1) := dk_177 (dk_at dksX3_regionComes_5 7 rfl rfl)
abbrev cX3_alike : ByteArray := prog_22_method_48_code
def yX3_alike : MethodName := ⟨RX3, "alike", "([III[III)Z"⟩
def dkwX3_alike_2 : List UInt8 := [160, 0, 7, 4, 167, 0, 4, 3, 54, 6, 132, 7, 1, 167, 255, 217, 21, 6, 172]
abbrev dktX3_alike_2 : List UInt8 := dkwX3_alike_2 ++ []
def dkwX3_alike_1 : List UInt8 := [27, 100, 162, 0, 37, 21, 6, 153, 0, 32, 42, 27, 21, 7, 96, 46, 45, 21, 4, 21, 7, 96, 46]
abbrev dktX3_alike_1 : List UInt8 := dkwX3_alike_1 ++ dktX3_alike_2
def dkwX3_alike_0 : List UInt8 := [28, 27, 100, 21, 5, 21, 4, 100, 160, 0, 7, 4, 167, 0, 4, 3, 54, 6, 3, 54, 7, 21, 7, 28]
abbrev dktX3_alike_0 : List UInt8 := dkwX3_alike_0 ++ dktX3_alike_1
theorem dksX3_alike_0 : cX3_alike.data.toList.drop 0 = dktX3_alike_0 := by decide +kernel
theorem dksX3_alike_1 : cX3_alike.data.toList.drop 24 = dktX3_alike_1 := dk_seg dksX3_alike_0 24 rfl rfl
theorem dksX3_alike_2 : cX3_alike.data.toList.drop 47 = dktX3_alike_2 := dk_seg dksX3_alike_1 23 rfl rfl
theorem dX3_alike_0 : decode cX3_alike 0 = .ok (.iload_n 2, 1) := dk_28 (dk_at dksX3_alike_0 0 rfl rfl)
theorem dX3_alike_1 : decode cX3_alike 1 = .ok (.iload_n 1, 1) := dk_27 (dk_at dksX3_alike_0 1 rfl rfl)
theorem dX3_alike_2 : decode cX3_alike 2 = .ok (.isub, 1) := dk_100 (dk_at dksX3_alike_0 2 rfl rfl)
theorem dX3_alike_3 : decode cX3_alike 3 = .ok (.iload 5, 2) := dk_21 5 (dk_at dksX3_alike_0 3 rfl rfl)
theorem dX3_alike_5 : decode cX3_alike 5 = .ok (.iload 4, 2) := dk_21 4 (dk_at dksX3_alike_0 5 rfl rfl)
theorem dX3_alike_7 : decode cX3_alike 7 = .ok (.isub, 1) := dk_100 (dk_at dksX3_alike_0 7 rfl rfl)
theorem dX3_alike_8 : decode cX3_alike 8 = .ok (.if_icmp .ne 7, 3) := dk_160 0 7 (dk_at dksX3_alike_0 8 rfl rfl)
theorem dX3_alike_11 : decode cX3_alike 11 = .ok (.iconst 1, 1) := dk_4 (dk_at dksX3_alike_0 11 rfl rfl)
theorem dX3_alike_12 : decode cX3_alike 12 = .ok (.goto 4, 3) := dk_167 0 4 (dk_at dksX3_alike_0 12 rfl rfl)
theorem dX3_alike_15 : decode cX3_alike 15 = .ok (.iconst 0, 1) := dk_3 (dk_at dksX3_alike_0 15 rfl rfl)
theorem dX3_alike_16 : decode cX3_alike 16 = .ok (.istore 6, 2) := dk_54 6 (dk_at dksX3_alike_0 16 rfl rfl)
theorem dX3_alike_18 : decode cX3_alike 18 = .ok (.iconst 0, 1) := dk_3 (dk_at dksX3_alike_0 18 rfl rfl)
theorem dX3_alike_19 : decode cX3_alike 19 = .ok (.istore 7, 2) := dk_54 7 (dk_at dksX3_alike_0 19 rfl rfl)
theorem dX3_alike_21 : decode cX3_alike 21 = .ok (.iload 7, 2) := dk_21 7 (dk_at dksX3_alike_0 21 rfl rfl)
theorem dX3_alike_23 : decode cX3_alike 23 = .ok (.iload_n 2, 1) := dk_28 (dk_at dksX3_alike_0 23 rfl rfl)
theorem dX3_alike_24 : decode cX3_alike 24 = .ok (.iload_n 1, 1) := dk_27 (dk_at dksX3_alike_1 0 rfl rfl)
theorem dX3_alike_25 : decode cX3_alike 25 = .ok (.isub, 1) := dk_100 (dk_at dksX3_alike_1 1 rfl rfl)
theorem dX3_alike_26 : decode cX3_alike 26 = .ok (.if_icmp .ge 37, 3) := dk_162 0 37 (dk_at dksX3_alike_1 2 rfl rfl)
theorem dX3_alike_29 : decode cX3_alike 29 = .ok (.iload 6, 2) := dk_21 6 (dk_at dksX3_alike_1 5 rfl rfl)
theorem dX3_alike_31 : decode cX3_alike 31 = .ok (.ifCond .eq 32, 3) := dk_153 0 32 (dk_at dksX3_alike_1 7 rfl rfl)
theorem dX3_alike_34 : decode cX3_alike 34 = .ok (.aload_n 0, 1) := dk_42 (dk_at dksX3_alike_1 10 rfl rfl)
theorem dX3_alike_35 : decode cX3_alike 35 = .ok (.iload_n 1, 1) := dk_27 (dk_at dksX3_alike_1 11 rfl rfl)
theorem dX3_alike_36 : decode cX3_alike 36 = .ok (.iload 7, 2) := dk_21 7 (dk_at dksX3_alike_1 12 rfl rfl)
theorem dX3_alike_38 : decode cX3_alike 38 = .ok (.iadd, 1) := dk_96 (dk_at dksX3_alike_1 14 rfl rfl)
theorem dX3_alike_39 : decode cX3_alike 39 = .ok (.iaload, 1) := dk_46 (dk_at dksX3_alike_1 15 rfl rfl)
theorem dX3_alike_40 : decode cX3_alike 40 = .ok (.aload_n 3, 1) := dk_45 (dk_at dksX3_alike_1 16 rfl rfl)
theorem dX3_alike_41 : decode cX3_alike 41 = .ok (.iload 4, 2) := dk_21 4 (dk_at dksX3_alike_1 17 rfl rfl)
theorem dX3_alike_43 : decode cX3_alike 43 = .ok (.iload 7, 2) := dk_21 7 (dk_at dksX3_alike_1 19 rfl rfl)
theorem dX3_alike_45 : decode cX3_alike 45 = .ok (.iadd, 1) := dk_96 (dk_at dksX3_alike_1 21 rfl rfl)
theorem dX3_alike_46 : decode cX3_alike 46 = .ok (.iaload, 1) := dk_46 (dk_at dksX3_alike_1 22 rfl rfl)
theorem dX3_alike_47 : decode cX3_alike 47 = .ok (.if_icmp .ne 7, 3) := dk_160 0 7 (dk_at dksX3_alike_2 0 rfl rfl)
theorem dX3_alike_50 : decode cX3_alike 50 = .ok (.iconst 1, 1) := dk_4 (dk_at dksX3_alike_2 3 rfl rfl)
theorem dX3_alike_51 : decode cX3_alike 51 = .ok (.goto 4, 3) := dk_167 0 4 (dk_at dksX3_alike_2 4 rfl rfl)
theorem dX3_alike_54 : decode cX3_alike 54 = .ok (.iconst 0, 1) := dk_3 (dk_at dksX3_alike_2 7 rfl rfl)
theorem dX3_alike_55 : decode cX3_alike 55 = .ok (.istore 6, 2) := dk_54 6 (dk_at dksX3_alike_2 8 rfl rfl)
theorem dX3_alike_57 : decode cX3_alike 57 = .ok (.iinc 7 1, 3) := dk_132 7 1 (dk_at dksX3_alike_2 10 rfl rfl)
theorem dX3_alike_60 : decode cX3_alike 60 = .ok (.goto (-39), 3) := dk_167 255 217 (dk_at dksX3_alike_2 13 rfl rfl)
theorem dX3_alike_63 : decode cX3_alike 63 = .ok (.iload 6, 2) := dk_21 6 (dk_at dksX3_alike_2 16 rfl rfl)
theorem dX3_alike_65 : decode cX3_alike 65 = .ok (.ireturn, 1) := dk_172 (dk_at dksX3_alike_2 18 rfl rfl)
abbrev cX3_chunkComes : ByteArray := prog_22_method_49_code
def yX3_chunkComes : MethodName := ⟨RX3, "chunkComes", "(IIIIIII)V"⟩
def dkwX3_chunkComes_4 : List UInt8 := [160, 0, 23, 42, 180, 0, 97, 42, 180, 0, 249, 2, 79, 42, 89, 180, 0, 249, 4, 96, 181, 0, 249, 177]
abbrev dktX3_chunkComes_4 : List UInt8 := dkwX3_chunkComes_4 ++ []
def dkwX3_chunkComes_3 : List UInt8 := [180, 0, 94, 21, 8, 16, 6, 96, 21, 7, 79, 42, 89, 180, 0, 246, 4, 96, 181, 0, 246, 27, 7]
abbrev dktX3_chunkComes_3 : List UInt8 := dkwX3_chunkComes_3 ++ dktX3_chunkComes_4
def dkwX3_chunkComes_2 : List UInt8 := [42, 180, 0, 94, 21, 8, 7, 96, 21, 5, 79, 42, 180, 0, 94, 21, 8, 8, 96, 21, 6, 79, 42]
abbrev dktX3_chunkComes_2 : List UInt8 := dkwX3_chunkComes_2 ++ dktX3_chunkComes_3
def dkwX3_chunkComes_1 : List UInt8 := [96, 28, 79, 42, 180, 0, 94, 21, 8, 5, 96, 29, 79, 42, 180, 0, 94, 21, 8, 6, 96, 21, 4, 79]
abbrev dktX3_chunkComes_1 : List UInt8 := dkwX3_chunkComes_1 ++ dktX3_chunkComes_2
def dkwX3_chunkComes_0 : List UInt8 := [16, 7, 42, 180, 0, 246, 104, 54, 8, 42, 180, 0, 94, 21, 8, 27, 79, 42, 180, 0, 94, 21, 8, 4]
abbrev dktX3_chunkComes_0 : List UInt8 := dkwX3_chunkComes_0 ++ dktX3_chunkComes_1
theorem dksX3_chunkComes_0 : cX3_chunkComes.data.toList.drop 0 = dktX3_chunkComes_0 := by decide +kernel
theorem dksX3_chunkComes_1 : cX3_chunkComes.data.toList.drop 24 = dktX3_chunkComes_1 := dk_seg dksX3_chunkComes_0 24 rfl rfl
theorem dksX3_chunkComes_2 : cX3_chunkComes.data.toList.drop 48 = dktX3_chunkComes_2 := dk_seg dksX3_chunkComes_1 24 rfl rfl
theorem dksX3_chunkComes_3 : cX3_chunkComes.data.toList.drop 71 = dktX3_chunkComes_3 := dk_seg dksX3_chunkComes_2 23 rfl rfl
theorem dksX3_chunkComes_4 : cX3_chunkComes.data.toList.drop 94 = dktX3_chunkComes_4 := dk_seg dksX3_chunkComes_3 23 rfl rfl
theorem dX3_chunkComes_0 : decode cX3_chunkComes 0 = .ok (.bipush 7, 2) := dk_16 7 (dk_at dksX3_chunkComes_0 0 rfl rfl)
theorem dX3_chunkComes_2 : decode cX3_chunkComes 2 = .ok (.aload_n 0, 1) := dk_42 (dk_at dksX3_chunkComes_0 2 rfl rfl)
theorem dX3_chunkComes_3 : decode cX3_chunkComes 3 = .ok (.getfield 246, 3) := dk_180 0 246 (dk_at dksX3_chunkComes_0 3 rfl rfl)
theorem dX3_chunkComes_6 : decode cX3_chunkComes 6 = .ok (.imul, 1) := dk_104 (dk_at dksX3_chunkComes_0 6 rfl rfl)
theorem dX3_chunkComes_7 : decode cX3_chunkComes 7 = .ok (.istore 8, 2) := dk_54 8 (dk_at dksX3_chunkComes_0 7 rfl rfl)
theorem dX3_chunkComes_9 : decode cX3_chunkComes 9 = .ok (.aload_n 0, 1) := dk_42 (dk_at dksX3_chunkComes_0 9 rfl rfl)
theorem dX3_chunkComes_10 : decode cX3_chunkComes 10 = .ok (.getfield 94, 3) := dk_180 0 94 (dk_at dksX3_chunkComes_0 10 rfl rfl)
theorem dX3_chunkComes_13 : decode cX3_chunkComes 13 = .ok (.iload 8, 2) := dk_21 8 (dk_at dksX3_chunkComes_0 13 rfl rfl)
theorem dX3_chunkComes_15 : decode cX3_chunkComes 15 = .ok (.iload_n 1, 1) := dk_27 (dk_at dksX3_chunkComes_0 15 rfl rfl)
theorem dX3_chunkComes_16 : decode cX3_chunkComes 16 = .ok (.iastore, 1) := dk_79 (dk_at dksX3_chunkComes_0 16 rfl rfl)
theorem dX3_chunkComes_17 : decode cX3_chunkComes 17 = .ok (.aload_n 0, 1) := dk_42 (dk_at dksX3_chunkComes_0 17 rfl rfl)
theorem dX3_chunkComes_18 : decode cX3_chunkComes 18 = .ok (.getfield 94, 3) := dk_180 0 94 (dk_at dksX3_chunkComes_0 18 rfl rfl)
theorem dX3_chunkComes_21 : decode cX3_chunkComes 21 = .ok (.iload 8, 2) := dk_21 8 (dk_at dksX3_chunkComes_0 21 rfl rfl)
theorem dX3_chunkComes_23 : decode cX3_chunkComes 23 = .ok (.iconst 1, 1) := dk_4 (dk_at dksX3_chunkComes_0 23 rfl rfl)
theorem dX3_chunkComes_24 : decode cX3_chunkComes 24 = .ok (.iadd, 1) := dk_96 (dk_at dksX3_chunkComes_1 0 rfl rfl)
theorem dX3_chunkComes_25 : decode cX3_chunkComes 25 = .ok (.iload_n 2, 1) := dk_28 (dk_at dksX3_chunkComes_1 1 rfl rfl)
theorem dX3_chunkComes_26 : decode cX3_chunkComes 26 = .ok (.iastore, 1) := dk_79 (dk_at dksX3_chunkComes_1 2 rfl rfl)
theorem dX3_chunkComes_27 : decode cX3_chunkComes 27 = .ok (.aload_n 0, 1) := dk_42 (dk_at dksX3_chunkComes_1 3 rfl rfl)
theorem dX3_chunkComes_28 : decode cX3_chunkComes 28 = .ok (.getfield 94, 3) := dk_180 0 94 (dk_at dksX3_chunkComes_1 4 rfl rfl)
theorem dX3_chunkComes_31 : decode cX3_chunkComes 31 = .ok (.iload 8, 2) := dk_21 8 (dk_at dksX3_chunkComes_1 7 rfl rfl)
theorem dX3_chunkComes_33 : decode cX3_chunkComes 33 = .ok (.iconst 2, 1) := dk_5 (dk_at dksX3_chunkComes_1 9 rfl rfl)
theorem dX3_chunkComes_34 : decode cX3_chunkComes 34 = .ok (.iadd, 1) := dk_96 (dk_at dksX3_chunkComes_1 10 rfl rfl)
theorem dX3_chunkComes_35 : decode cX3_chunkComes 35 = .ok (.iload_n 3, 1) := dk_29 (dk_at dksX3_chunkComes_1 11 rfl rfl)
theorem dX3_chunkComes_36 : decode cX3_chunkComes 36 = .ok (.iastore, 1) := dk_79 (dk_at dksX3_chunkComes_1 12 rfl rfl)
theorem dX3_chunkComes_37 : decode cX3_chunkComes 37 = .ok (.aload_n 0, 1) := dk_42 (dk_at dksX3_chunkComes_1 13 rfl rfl)
theorem dX3_chunkComes_38 : decode cX3_chunkComes 38 = .ok (.getfield 94, 3) := dk_180 0 94 (dk_at dksX3_chunkComes_1 14 rfl rfl)
theorem dX3_chunkComes_41 : decode cX3_chunkComes 41 = .ok (.iload 8, 2) := dk_21 8 (dk_at dksX3_chunkComes_1 17 rfl rfl)
theorem dX3_chunkComes_43 : decode cX3_chunkComes 43 = .ok (.iconst 3, 1) := dk_6 (dk_at dksX3_chunkComes_1 19 rfl rfl)
theorem dX3_chunkComes_44 : decode cX3_chunkComes 44 = .ok (.iadd, 1) := dk_96 (dk_at dksX3_chunkComes_1 20 rfl rfl)
theorem dX3_chunkComes_45 : decode cX3_chunkComes 45 = .ok (.iload 4, 2) := dk_21 4 (dk_at dksX3_chunkComes_1 21 rfl rfl)
theorem dX3_chunkComes_47 : decode cX3_chunkComes 47 = .ok (.iastore, 1) := dk_79 (dk_at dksX3_chunkComes_1 23 rfl rfl)
theorem dX3_chunkComes_48 : decode cX3_chunkComes 48 = .ok (.aload_n 0, 1) := dk_42 (dk_at dksX3_chunkComes_2 0 rfl rfl)
theorem dX3_chunkComes_49 : decode cX3_chunkComes 49 = .ok (.getfield 94, 3) := dk_180 0 94 (dk_at dksX3_chunkComes_2 1 rfl rfl)
theorem dX3_chunkComes_52 : decode cX3_chunkComes 52 = .ok (.iload 8, 2) := dk_21 8 (dk_at dksX3_chunkComes_2 4 rfl rfl)
theorem dX3_chunkComes_54 : decode cX3_chunkComes 54 = .ok (.iconst 4, 1) := dk_7 (dk_at dksX3_chunkComes_2 6 rfl rfl)
theorem dX3_chunkComes_55 : decode cX3_chunkComes 55 = .ok (.iadd, 1) := dk_96 (dk_at dksX3_chunkComes_2 7 rfl rfl)
theorem dX3_chunkComes_56 : decode cX3_chunkComes 56 = .ok (.iload 5, 2) := dk_21 5 (dk_at dksX3_chunkComes_2 8 rfl rfl)
theorem dX3_chunkComes_58 : decode cX3_chunkComes 58 = .ok (.iastore, 1) := dk_79 (dk_at dksX3_chunkComes_2 10 rfl rfl)
theorem dX3_chunkComes_59 : decode cX3_chunkComes 59 = .ok (.aload_n 0, 1) := dk_42 (dk_at dksX3_chunkComes_2 11 rfl rfl)
theorem dX3_chunkComes_60 : decode cX3_chunkComes 60 = .ok (.getfield 94, 3) := dk_180 0 94 (dk_at dksX3_chunkComes_2 12 rfl rfl)
theorem dX3_chunkComes_63 : decode cX3_chunkComes 63 = .ok (.iload 8, 2) := dk_21 8 (dk_at dksX3_chunkComes_2 15 rfl rfl)
theorem dX3_chunkComes_65 : decode cX3_chunkComes 65 = .ok (.iconst 5, 1) := dk_8 (dk_at dksX3_chunkComes_2 17 rfl rfl)
theorem dX3_chunkComes_66 : decode cX3_chunkComes 66 = .ok (.iadd, 1) := dk_96 (dk_at dksX3_chunkComes_2 18 rfl rfl)
theorem dX3_chunkComes_67 : decode cX3_chunkComes 67 = .ok (.iload 6, 2) := dk_21 6 (dk_at dksX3_chunkComes_2 19 rfl rfl)
theorem dX3_chunkComes_69 : decode cX3_chunkComes 69 = .ok (.iastore, 1) := dk_79 (dk_at dksX3_chunkComes_2 21 rfl rfl)
theorem dX3_chunkComes_70 : decode cX3_chunkComes 70 = .ok (.aload_n 0, 1) := dk_42 (dk_at dksX3_chunkComes_2 22 rfl rfl)
theorem dX3_chunkComes_71 : decode cX3_chunkComes 71 = .ok (.getfield 94, 3) := dk_180 0 94 (dk_at dksX3_chunkComes_3 0 rfl rfl)
theorem dX3_chunkComes_74 : decode cX3_chunkComes 74 = .ok (.iload 8, 2) := dk_21 8 (dk_at dksX3_chunkComes_3 3 rfl rfl)
theorem dX3_chunkComes_76 : decode cX3_chunkComes 76 = .ok (.bipush 6, 2) := dk_16 6 (dk_at dksX3_chunkComes_3 5 rfl rfl)
theorem dX3_chunkComes_78 : decode cX3_chunkComes 78 = .ok (.iadd, 1) := dk_96 (dk_at dksX3_chunkComes_3 7 rfl rfl)
theorem dX3_chunkComes_79 : decode cX3_chunkComes 79 = .ok (.iload 7, 2) := dk_21 7 (dk_at dksX3_chunkComes_3 8 rfl rfl)
theorem dX3_chunkComes_81 : decode cX3_chunkComes 81 = .ok (.iastore, 1) := dk_79 (dk_at dksX3_chunkComes_3 10 rfl rfl)
theorem dX3_chunkComes_82 : decode cX3_chunkComes 82 = .ok (.aload_n 0, 1) := dk_42 (dk_at dksX3_chunkComes_3 11 rfl rfl)
theorem dX3_chunkComes_83 : decode cX3_chunkComes 83 = .ok (.dup, 1) := dk_89 (dk_at dksX3_chunkComes_3 12 rfl rfl)
theorem dX3_chunkComes_84 : decode cX3_chunkComes 84 = .ok (.getfield 246, 3) := dk_180 0 246 (dk_at dksX3_chunkComes_3 13 rfl rfl)
theorem dX3_chunkComes_87 : decode cX3_chunkComes 87 = .ok (.iconst 1, 1) := dk_4 (dk_at dksX3_chunkComes_3 16 rfl rfl)
theorem dX3_chunkComes_88 : decode cX3_chunkComes 88 = .ok (.iadd, 1) := dk_96 (dk_at dksX3_chunkComes_3 17 rfl rfl)
theorem dX3_chunkComes_89 : decode cX3_chunkComes 89 = .ok (.putfield 246, 3) := dk_181 0 246 (dk_at dksX3_chunkComes_3 18 rfl rfl)
theorem dX3_chunkComes_92 : decode cX3_chunkComes 92 = .ok (.iload_n 1, 1) := dk_27 (dk_at dksX3_chunkComes_3 21 rfl rfl)
theorem dX3_chunkComes_93 : decode cX3_chunkComes 93 = .ok (.iconst 4, 1) := dk_7 (dk_at dksX3_chunkComes_3 22 rfl rfl)
theorem dX3_chunkComes_94 : decode cX3_chunkComes 94 = .ok (.if_icmp .ne 23, 3) := dk_160 0 23 (dk_at dksX3_chunkComes_4 0 rfl rfl)
theorem dX3_chunkComes_97 : decode cX3_chunkComes 97 = .ok (.aload_n 0, 1) := dk_42 (dk_at dksX3_chunkComes_4 3 rfl rfl)
theorem dX3_chunkComes_98 : decode cX3_chunkComes 98 = .ok (.getfield 97, 3) := dk_180 0 97 (dk_at dksX3_chunkComes_4 4 rfl rfl)
theorem dX3_chunkComes_101 : decode cX3_chunkComes 101 = .ok (.aload_n 0, 1) := dk_42 (dk_at dksX3_chunkComes_4 7 rfl rfl)
theorem dX3_chunkComes_102 : decode cX3_chunkComes 102 = .ok (.getfield 249, 3) := dk_180 0 249 (dk_at dksX3_chunkComes_4 8 rfl rfl)
theorem dX3_chunkComes_105 : decode cX3_chunkComes 105 = .ok (.iconst (-1), 1) := dk_2 (dk_at dksX3_chunkComes_4 11 rfl rfl)
theorem dX3_chunkComes_106 : decode cX3_chunkComes 106 = .ok (.iastore, 1) := dk_79 (dk_at dksX3_chunkComes_4 12 rfl rfl)
theorem dX3_chunkComes_107 : decode cX3_chunkComes 107 = .ok (.aload_n 0, 1) := dk_42 (dk_at dksX3_chunkComes_4 13 rfl rfl)
theorem dX3_chunkComes_108 : decode cX3_chunkComes 108 = .ok (.dup, 1) := dk_89 (dk_at dksX3_chunkComes_4 14 rfl rfl)
theorem dX3_chunkComes_109 : decode cX3_chunkComes 109 = .ok (.getfield 249, 3) := dk_180 0 249 (dk_at dksX3_chunkComes_4 15 rfl rfl)
theorem dX3_chunkComes_112 : decode cX3_chunkComes 112 = .ok (.iconst 1, 1) := dk_4 (dk_at dksX3_chunkComes_4 18 rfl rfl)
theorem dX3_chunkComes_113 : decode cX3_chunkComes 113 = .ok (.iadd, 1) := dk_96 (dk_at dksX3_chunkComes_4 19 rfl rfl)
theorem dX3_chunkComes_114 : decode cX3_chunkComes 114 = .ok (.putfield 249, 3) := dk_181 0 249 (dk_at dksX3_chunkComes_4 20 rfl rfl)
theorem dX3_chunkComes_117 : decode cX3_chunkComes 117 = .ok (.return_, 1) := dk_177 (dk_at dksX3_chunkComes_4 23 rfl rfl)
abbrev cX3_conflictComes : ByteArray := prog_22_method_50_code
def yX3_conflictComes : MethodName := ⟨RX3, "conflictComes", "(IIIIII)V"⟩
def dkwX3_conflictComes_8 : List UInt8 := [21, 8, 100, 21, 4, 21, 6, 21, 8, 100, 21, 6, 182, 0, 252, 177]
abbrev dktX3_conflictComes_8 : List UInt8 := dkwX3_conflictComes_8 ++ []
def dkwX3_conflictComes_7 : List UInt8 := [21, 5, 21, 7, 96, 21, 6, 21, 8, 100, 182, 0, 252, 21, 8, 158, 0, 24, 42, 6, 28, 28, 21, 4]
abbrev dktX3_conflictComes_7 : List UInt8 := dkwX3_conflictComes_7 ++ dktX3_conflictComes_8
def dkwX3_conflictComes_6 : List UInt8 := [21, 5, 21, 5, 21, 7, 96, 182, 0, 252, 42, 7, 27, 28, 29, 21, 7, 96, 21, 4, 21, 8, 100]
abbrev dktX3_conflictComes_6 : List UInt8 := dkwX3_conflictComes_6 ++ dktX3_conflictComes_7
def dkwX3_conflictComes_5 : List UInt8 := [160, 0, 9, 132, 8, 1, 167, 255, 194, 21, 7, 158, 0, 22, 42, 6, 27, 27, 29, 29, 21, 7, 96]
abbrev dktX3_conflictComes_5 : List UInt8 := dkwX3_conflictComes_5 ++ dktX3_conflictComes_6
def dkwX3_conflictComes_4 : List UInt8 := [180, 0, 82, 21, 4, 21, 8, 100, 4, 100, 46, 42, 180, 0, 85, 21, 6, 21, 8, 100, 4, 100, 46]
abbrev dktX3_conflictComes_4 : List UInt8 := dkwX3_conflictComes_4 ++ dktX3_conflictComes_5
def dkwX3_conflictComes_3 : List UInt8 := [100, 29, 21, 7, 96, 164, 0, 49, 21, 6, 21, 8, 100, 21, 5, 21, 7, 96, 164, 0, 36, 42]
abbrev dktX3_conflictComes_3 : List UInt8 := dkwX3_conflictComes_3 ++ dktX3_conflictComes_4
def dkwX3_conflictComes_2 : List UInt8 := [21, 7, 96, 46, 160, 0, 9, 132, 7, 1, 167, 255, 205, 42, 180, 0, 16, 153, 0, 61, 21, 4, 21, 8]
abbrev dktX3_conflictComes_2 : List UInt8 := dkwX3_conflictComes_2 ++ dktX3_conflictComes_3
def dkwX3_conflictComes_1 : List UInt8 := [21, 7, 96, 21, 6, 162, 0, 31, 42, 180, 0, 82, 29, 21, 7, 96, 46, 42, 180, 0, 85, 21, 5]
abbrev dktX3_conflictComes_1 : List UInt8 := dkwX3_conflictComes_1 ++ dktX3_conflictComes_2
def dkwX3_conflictComes_0 : List UInt8 := [3, 54, 7, 3, 54, 8, 42, 180, 0, 16, 153, 0, 50, 29, 21, 7, 96, 21, 4, 162, 0, 41, 21, 5]
abbrev dktX3_conflictComes_0 : List UInt8 := dkwX3_conflictComes_0 ++ dktX3_conflictComes_1
theorem dksX3_conflictComes_0 : cX3_conflictComes.data.toList.drop 0 = dktX3_conflictComes_0 := by decide +kernel
theorem dksX3_conflictComes_1 : cX3_conflictComes.data.toList.drop 24 = dktX3_conflictComes_1 := dk_seg dksX3_conflictComes_0 24 rfl rfl
theorem dksX3_conflictComes_2 : cX3_conflictComes.data.toList.drop 47 = dktX3_conflictComes_2 := dk_seg dksX3_conflictComes_1 23 rfl rfl
theorem dksX3_conflictComes_3 : cX3_conflictComes.data.toList.drop 71 = dktX3_conflictComes_3 := dk_seg dksX3_conflictComes_2 24 rfl rfl
theorem dksX3_conflictComes_4 : cX3_conflictComes.data.toList.drop 93 = dktX3_conflictComes_4 := dk_seg dksX3_conflictComes_3 22 rfl rfl
theorem dksX3_conflictComes_5 : cX3_conflictComes.data.toList.drop 116 = dktX3_conflictComes_5 := dk_seg dksX3_conflictComes_4 23 rfl rfl
theorem dksX3_conflictComes_6 : cX3_conflictComes.data.toList.drop 139 = dktX3_conflictComes_6 := dk_seg dksX3_conflictComes_5 23 rfl rfl
theorem dksX3_conflictComes_7 : cX3_conflictComes.data.toList.drop 162 = dktX3_conflictComes_7 := dk_seg dksX3_conflictComes_6 23 rfl rfl
theorem dksX3_conflictComes_8 : cX3_conflictComes.data.toList.drop 186 = dktX3_conflictComes_8 := dk_seg dksX3_conflictComes_7 24 rfl rfl
theorem dX3_conflictComes_0 : decode cX3_conflictComes 0 = .ok (.iconst 0, 1) := dk_3 (dk_at dksX3_conflictComes_0 0 rfl rfl)
theorem dX3_conflictComes_1 : decode cX3_conflictComes 1 = .ok (.istore 7, 2) := dk_54 7 (dk_at dksX3_conflictComes_0 1 rfl rfl)
theorem dX3_conflictComes_3 : decode cX3_conflictComes 3 = .ok (.iconst 0, 1) := dk_3 (dk_at dksX3_conflictComes_0 3 rfl rfl)
theorem dX3_conflictComes_4 : decode cX3_conflictComes 4 = .ok (.istore 8, 2) := dk_54 8 (dk_at dksX3_conflictComes_0 4 rfl rfl)
theorem dX3_conflictComes_6 : decode cX3_conflictComes 6 = .ok (.aload_n 0, 1) := dk_42 (dk_at dksX3_conflictComes_0 6 rfl rfl)
theorem dX3_conflictComes_7 : decode cX3_conflictComes 7 = .ok (.getfield 16, 3) := dk_180 0 16 (dk_at dksX3_conflictComes_0 7 rfl rfl)
theorem dX3_conflictComes_10 : decode cX3_conflictComes 10 = .ok (.ifCond .eq 50, 3) := dk_153 0 50 (dk_at dksX3_conflictComes_0 10 rfl rfl)
theorem dX3_conflictComes_13 : decode cX3_conflictComes 13 = .ok (.iload_n 3, 1) := dk_29 (dk_at dksX3_conflictComes_0 13 rfl rfl)
theorem dX3_conflictComes_14 : decode cX3_conflictComes 14 = .ok (.iload 7, 2) := dk_21 7 (dk_at dksX3_conflictComes_0 14 rfl rfl)
theorem dX3_conflictComes_16 : decode cX3_conflictComes 16 = .ok (.iadd, 1) := dk_96 (dk_at dksX3_conflictComes_0 16 rfl rfl)
theorem dX3_conflictComes_17 : decode cX3_conflictComes 17 = .ok (.iload 4, 2) := dk_21 4 (dk_at dksX3_conflictComes_0 17 rfl rfl)
theorem dX3_conflictComes_19 : decode cX3_conflictComes 19 = .ok (.if_icmp .ge 41, 3) := dk_162 0 41 (dk_at dksX3_conflictComes_0 19 rfl rfl)
theorem dX3_conflictComes_22 : decode cX3_conflictComes 22 = .ok (.iload 5, 2) := dk_21 5 (dk_at dksX3_conflictComes_0 22 rfl rfl)
theorem dX3_conflictComes_24 : decode cX3_conflictComes 24 = .ok (.iload 7, 2) := dk_21 7 (dk_at dksX3_conflictComes_1 0 rfl rfl)
theorem dX3_conflictComes_26 : decode cX3_conflictComes 26 = .ok (.iadd, 1) := dk_96 (dk_at dksX3_conflictComes_1 2 rfl rfl)
theorem dX3_conflictComes_27 : decode cX3_conflictComes 27 = .ok (.iload 6, 2) := dk_21 6 (dk_at dksX3_conflictComes_1 3 rfl rfl)
theorem dX3_conflictComes_29 : decode cX3_conflictComes 29 = .ok (.if_icmp .ge 31, 3) := dk_162 0 31 (dk_at dksX3_conflictComes_1 5 rfl rfl)
theorem dX3_conflictComes_32 : decode cX3_conflictComes 32 = .ok (.aload_n 0, 1) := dk_42 (dk_at dksX3_conflictComes_1 8 rfl rfl)
theorem dX3_conflictComes_33 : decode cX3_conflictComes 33 = .ok (.getfield 82, 3) := dk_180 0 82 (dk_at dksX3_conflictComes_1 9 rfl rfl)
theorem dX3_conflictComes_36 : decode cX3_conflictComes 36 = .ok (.iload_n 3, 1) := dk_29 (dk_at dksX3_conflictComes_1 12 rfl rfl)
theorem dX3_conflictComes_37 : decode cX3_conflictComes 37 = .ok (.iload 7, 2) := dk_21 7 (dk_at dksX3_conflictComes_1 13 rfl rfl)
theorem dX3_conflictComes_39 : decode cX3_conflictComes 39 = .ok (.iadd, 1) := dk_96 (dk_at dksX3_conflictComes_1 15 rfl rfl)
theorem dX3_conflictComes_40 : decode cX3_conflictComes 40 = .ok (.iaload, 1) := dk_46 (dk_at dksX3_conflictComes_1 16 rfl rfl)
theorem dX3_conflictComes_41 : decode cX3_conflictComes 41 = .ok (.aload_n 0, 1) := dk_42 (dk_at dksX3_conflictComes_1 17 rfl rfl)
theorem dX3_conflictComes_42 : decode cX3_conflictComes 42 = .ok (.getfield 85, 3) := dk_180 0 85 (dk_at dksX3_conflictComes_1 18 rfl rfl)
theorem dX3_conflictComes_45 : decode cX3_conflictComes 45 = .ok (.iload 5, 2) := dk_21 5 (dk_at dksX3_conflictComes_1 21 rfl rfl)
theorem dX3_conflictComes_47 : decode cX3_conflictComes 47 = .ok (.iload 7, 2) := dk_21 7 (dk_at dksX3_conflictComes_2 0 rfl rfl)
theorem dX3_conflictComes_49 : decode cX3_conflictComes 49 = .ok (.iadd, 1) := dk_96 (dk_at dksX3_conflictComes_2 2 rfl rfl)
theorem dX3_conflictComes_50 : decode cX3_conflictComes 50 = .ok (.iaload, 1) := dk_46 (dk_at dksX3_conflictComes_2 3 rfl rfl)
theorem dX3_conflictComes_51 : decode cX3_conflictComes 51 = .ok (.if_icmp .ne 9, 3) := dk_160 0 9 (dk_at dksX3_conflictComes_2 4 rfl rfl)
theorem dX3_conflictComes_54 : decode cX3_conflictComes 54 = .ok (.iinc 7 1, 3) := dk_132 7 1 (dk_at dksX3_conflictComes_2 7 rfl rfl)
theorem dX3_conflictComes_57 : decode cX3_conflictComes 57 = .ok (.goto (-51), 3) := dk_167 255 205 (dk_at dksX3_conflictComes_2 10 rfl rfl)
theorem dX3_conflictComes_60 : decode cX3_conflictComes 60 = .ok (.aload_n 0, 1) := dk_42 (dk_at dksX3_conflictComes_2 13 rfl rfl)
theorem dX3_conflictComes_61 : decode cX3_conflictComes 61 = .ok (.getfield 16, 3) := dk_180 0 16 (dk_at dksX3_conflictComes_2 14 rfl rfl)
theorem dX3_conflictComes_64 : decode cX3_conflictComes 64 = .ok (.ifCond .eq 61, 3) := dk_153 0 61 (dk_at dksX3_conflictComes_2 17 rfl rfl)
theorem dX3_conflictComes_67 : decode cX3_conflictComes 67 = .ok (.iload 4, 2) := dk_21 4 (dk_at dksX3_conflictComes_2 20 rfl rfl)
theorem dX3_conflictComes_69 : decode cX3_conflictComes 69 = .ok (.iload 8, 2) := dk_21 8 (dk_at dksX3_conflictComes_2 22 rfl rfl)
theorem dX3_conflictComes_71 : decode cX3_conflictComes 71 = .ok (.isub, 1) := dk_100 (dk_at dksX3_conflictComes_3 0 rfl rfl)
theorem dX3_conflictComes_72 : decode cX3_conflictComes 72 = .ok (.iload_n 3, 1) := dk_29 (dk_at dksX3_conflictComes_3 1 rfl rfl)
theorem dX3_conflictComes_73 : decode cX3_conflictComes 73 = .ok (.iload 7, 2) := dk_21 7 (dk_at dksX3_conflictComes_3 2 rfl rfl)
theorem dX3_conflictComes_75 : decode cX3_conflictComes 75 = .ok (.iadd, 1) := dk_96 (dk_at dksX3_conflictComes_3 4 rfl rfl)
theorem dX3_conflictComes_76 : decode cX3_conflictComes 76 = .ok (.if_icmp .le 49, 3) := dk_164 0 49 (dk_at dksX3_conflictComes_3 5 rfl rfl)
theorem dX3_conflictComes_79 : decode cX3_conflictComes 79 = .ok (.iload 6, 2) := dk_21 6 (dk_at dksX3_conflictComes_3 8 rfl rfl)
theorem dX3_conflictComes_81 : decode cX3_conflictComes 81 = .ok (.iload 8, 2) := dk_21 8 (dk_at dksX3_conflictComes_3 10 rfl rfl)
theorem dX3_conflictComes_83 : decode cX3_conflictComes 83 = .ok (.isub, 1) := dk_100 (dk_at dksX3_conflictComes_3 12 rfl rfl)
theorem dX3_conflictComes_84 : decode cX3_conflictComes 84 = .ok (.iload 5, 2) := dk_21 5 (dk_at dksX3_conflictComes_3 13 rfl rfl)
theorem dX3_conflictComes_86 : decode cX3_conflictComes 86 = .ok (.iload 7, 2) := dk_21 7 (dk_at dksX3_conflictComes_3 15 rfl rfl)
theorem dX3_conflictComes_88 : decode cX3_conflictComes 88 = .ok (.iadd, 1) := dk_96 (dk_at dksX3_conflictComes_3 17 rfl rfl)
theorem dX3_conflictComes_89 : decode cX3_conflictComes 89 = .ok (.if_icmp .le 36, 3) := dk_164 0 36 (dk_at dksX3_conflictComes_3 18 rfl rfl)
theorem dX3_conflictComes_92 : decode cX3_conflictComes 92 = .ok (.aload_n 0, 1) := dk_42 (dk_at dksX3_conflictComes_3 21 rfl rfl)
theorem dX3_conflictComes_93 : decode cX3_conflictComes 93 = .ok (.getfield 82, 3) := dk_180 0 82 (dk_at dksX3_conflictComes_4 0 rfl rfl)
theorem dX3_conflictComes_96 : decode cX3_conflictComes 96 = .ok (.iload 4, 2) := dk_21 4 (dk_at dksX3_conflictComes_4 3 rfl rfl)
theorem dX3_conflictComes_98 : decode cX3_conflictComes 98 = .ok (.iload 8, 2) := dk_21 8 (dk_at dksX3_conflictComes_4 5 rfl rfl)
theorem dX3_conflictComes_100 : decode cX3_conflictComes 100 = .ok (.isub, 1) := dk_100 (dk_at dksX3_conflictComes_4 7 rfl rfl)
theorem dX3_conflictComes_101 : decode cX3_conflictComes 101 = .ok (.iconst 1, 1) := dk_4 (dk_at dksX3_conflictComes_4 8 rfl rfl)
theorem dX3_conflictComes_102 : decode cX3_conflictComes 102 = .ok (.isub, 1) := dk_100 (dk_at dksX3_conflictComes_4 9 rfl rfl)
theorem dX3_conflictComes_103 : decode cX3_conflictComes 103 = .ok (.iaload, 1) := dk_46 (dk_at dksX3_conflictComes_4 10 rfl rfl)
theorem dX3_conflictComes_104 : decode cX3_conflictComes 104 = .ok (.aload_n 0, 1) := dk_42 (dk_at dksX3_conflictComes_4 11 rfl rfl)
theorem dX3_conflictComes_105 : decode cX3_conflictComes 105 = .ok (.getfield 85, 3) := dk_180 0 85 (dk_at dksX3_conflictComes_4 12 rfl rfl)
theorem dX3_conflictComes_108 : decode cX3_conflictComes 108 = .ok (.iload 6, 2) := dk_21 6 (dk_at dksX3_conflictComes_4 15 rfl rfl)
theorem dX3_conflictComes_110 : decode cX3_conflictComes 110 = .ok (.iload 8, 2) := dk_21 8 (dk_at dksX3_conflictComes_4 17 rfl rfl)
theorem dX3_conflictComes_112 : decode cX3_conflictComes 112 = .ok (.isub, 1) := dk_100 (dk_at dksX3_conflictComes_4 19 rfl rfl)
theorem dX3_conflictComes_113 : decode cX3_conflictComes 113 = .ok (.iconst 1, 1) := dk_4 (dk_at dksX3_conflictComes_4 20 rfl rfl)
theorem dX3_conflictComes_114 : decode cX3_conflictComes 114 = .ok (.isub, 1) := dk_100 (dk_at dksX3_conflictComes_4 21 rfl rfl)
theorem dX3_conflictComes_115 : decode cX3_conflictComes 115 = .ok (.iaload, 1) := dk_46 (dk_at dksX3_conflictComes_4 22 rfl rfl)
theorem dX3_conflictComes_116 : decode cX3_conflictComes 116 = .ok (.if_icmp .ne 9, 3) := dk_160 0 9 (dk_at dksX3_conflictComes_5 0 rfl rfl)
theorem dX3_conflictComes_119 : decode cX3_conflictComes 119 = .ok (.iinc 8 1, 3) := dk_132 8 1 (dk_at dksX3_conflictComes_5 3 rfl rfl)
theorem dX3_conflictComes_122 : decode cX3_conflictComes 122 = .ok (.goto (-62), 3) := dk_167 255 194 (dk_at dksX3_conflictComes_5 6 rfl rfl)
theorem dX3_conflictComes_125 : decode cX3_conflictComes 125 = .ok (.iload 7, 2) := dk_21 7 (dk_at dksX3_conflictComes_5 9 rfl rfl)
theorem dX3_conflictComes_127 : decode cX3_conflictComes 127 = .ok (.ifCond .le 22, 3) := dk_158 0 22 (dk_at dksX3_conflictComes_5 11 rfl rfl)
theorem dX3_conflictComes_130 : decode cX3_conflictComes 130 = .ok (.aload_n 0, 1) := dk_42 (dk_at dksX3_conflictComes_5 14 rfl rfl)
theorem dX3_conflictComes_131 : decode cX3_conflictComes 131 = .ok (.iconst 3, 1) := dk_6 (dk_at dksX3_conflictComes_5 15 rfl rfl)
theorem dX3_conflictComes_132 : decode cX3_conflictComes 132 = .ok (.iload_n 1, 1) := dk_27 (dk_at dksX3_conflictComes_5 16 rfl rfl)
theorem dX3_conflictComes_133 : decode cX3_conflictComes 133 = .ok (.iload_n 1, 1) := dk_27 (dk_at dksX3_conflictComes_5 17 rfl rfl)
theorem dX3_conflictComes_134 : decode cX3_conflictComes 134 = .ok (.iload_n 3, 1) := dk_29 (dk_at dksX3_conflictComes_5 18 rfl rfl)
theorem dX3_conflictComes_135 : decode cX3_conflictComes 135 = .ok (.iload_n 3, 1) := dk_29 (dk_at dksX3_conflictComes_5 19 rfl rfl)
theorem dX3_conflictComes_136 : decode cX3_conflictComes 136 = .ok (.iload 7, 2) := dk_21 7 (dk_at dksX3_conflictComes_5 20 rfl rfl)
theorem dX3_conflictComes_138 : decode cX3_conflictComes 138 = .ok (.iadd, 1) := dk_96 (dk_at dksX3_conflictComes_5 22 rfl rfl)
theorem dX3_conflictComes_139 : decode cX3_conflictComes 139 = .ok (.iload 5, 2) := dk_21 5 (dk_at dksX3_conflictComes_6 0 rfl rfl)
theorem dX3_conflictComes_141 : decode cX3_conflictComes 141 = .ok (.iload 5, 2) := dk_21 5 (dk_at dksX3_conflictComes_6 2 rfl rfl)
theorem dX3_conflictComes_143 : decode cX3_conflictComes 143 = .ok (.iload 7, 2) := dk_21 7 (dk_at dksX3_conflictComes_6 4 rfl rfl)
theorem dX3_conflictComes_145 : decode cX3_conflictComes 145 = .ok (.iadd, 1) := dk_96 (dk_at dksX3_conflictComes_6 6 rfl rfl)
theorem dX3_conflictComes_146 : decode cX3_conflictComes 146 = .ok (.invokevirtual 252, 3) := dk_182 0 252 (dk_at dksX3_conflictComes_6 7 rfl rfl)
theorem dX3_conflictComes_149 : decode cX3_conflictComes 149 = .ok (.aload_n 0, 1) := dk_42 (dk_at dksX3_conflictComes_6 10 rfl rfl)
theorem dX3_conflictComes_150 : decode cX3_conflictComes 150 = .ok (.iconst 4, 1) := dk_7 (dk_at dksX3_conflictComes_6 11 rfl rfl)
theorem dX3_conflictComes_151 : decode cX3_conflictComes 151 = .ok (.iload_n 1, 1) := dk_27 (dk_at dksX3_conflictComes_6 12 rfl rfl)
theorem dX3_conflictComes_152 : decode cX3_conflictComes 152 = .ok (.iload_n 2, 1) := dk_28 (dk_at dksX3_conflictComes_6 13 rfl rfl)
theorem dX3_conflictComes_153 : decode cX3_conflictComes 153 = .ok (.iload_n 3, 1) := dk_29 (dk_at dksX3_conflictComes_6 14 rfl rfl)
theorem dX3_conflictComes_154 : decode cX3_conflictComes 154 = .ok (.iload 7, 2) := dk_21 7 (dk_at dksX3_conflictComes_6 15 rfl rfl)
theorem dX3_conflictComes_156 : decode cX3_conflictComes 156 = .ok (.iadd, 1) := dk_96 (dk_at dksX3_conflictComes_6 17 rfl rfl)
theorem dX3_conflictComes_157 : decode cX3_conflictComes 157 = .ok (.iload 4, 2) := dk_21 4 (dk_at dksX3_conflictComes_6 18 rfl rfl)
theorem dX3_conflictComes_159 : decode cX3_conflictComes 159 = .ok (.iload 8, 2) := dk_21 8 (dk_at dksX3_conflictComes_6 20 rfl rfl)
theorem dX3_conflictComes_161 : decode cX3_conflictComes 161 = .ok (.isub, 1) := dk_100 (dk_at dksX3_conflictComes_6 22 rfl rfl)
theorem dX3_conflictComes_162 : decode cX3_conflictComes 162 = .ok (.iload 5, 2) := dk_21 5 (dk_at dksX3_conflictComes_7 0 rfl rfl)
theorem dX3_conflictComes_164 : decode cX3_conflictComes 164 = .ok (.iload 7, 2) := dk_21 7 (dk_at dksX3_conflictComes_7 2 rfl rfl)
theorem dX3_conflictComes_166 : decode cX3_conflictComes 166 = .ok (.iadd, 1) := dk_96 (dk_at dksX3_conflictComes_7 4 rfl rfl)
theorem dX3_conflictComes_167 : decode cX3_conflictComes 167 = .ok (.iload 6, 2) := dk_21 6 (dk_at dksX3_conflictComes_7 5 rfl rfl)
theorem dX3_conflictComes_169 : decode cX3_conflictComes 169 = .ok (.iload 8, 2) := dk_21 8 (dk_at dksX3_conflictComes_7 7 rfl rfl)
theorem dX3_conflictComes_171 : decode cX3_conflictComes 171 = .ok (.isub, 1) := dk_100 (dk_at dksX3_conflictComes_7 9 rfl rfl)
theorem dX3_conflictComes_172 : decode cX3_conflictComes 172 = .ok (.invokevirtual 252, 3) := dk_182 0 252 (dk_at dksX3_conflictComes_7 10 rfl rfl)
theorem dX3_conflictComes_175 : decode cX3_conflictComes 175 = .ok (.iload 8, 2) := dk_21 8 (dk_at dksX3_conflictComes_7 13 rfl rfl)
theorem dX3_conflictComes_177 : decode cX3_conflictComes 177 = .ok (.ifCond .le 24, 3) := dk_158 0 24 (dk_at dksX3_conflictComes_7 15 rfl rfl)
theorem dX3_conflictComes_180 : decode cX3_conflictComes 180 = .ok (.aload_n 0, 1) := dk_42 (dk_at dksX3_conflictComes_7 18 rfl rfl)
theorem dX3_conflictComes_181 : decode cX3_conflictComes 181 = .ok (.iconst 3, 1) := dk_6 (dk_at dksX3_conflictComes_7 19 rfl rfl)
theorem dX3_conflictComes_182 : decode cX3_conflictComes 182 = .ok (.iload_n 2, 1) := dk_28 (dk_at dksX3_conflictComes_7 20 rfl rfl)
theorem dX3_conflictComes_183 : decode cX3_conflictComes 183 = .ok (.iload_n 2, 1) := dk_28 (dk_at dksX3_conflictComes_7 21 rfl rfl)
theorem dX3_conflictComes_184 : decode cX3_conflictComes 184 = .ok (.iload 4, 2) := dk_21 4 (dk_at dksX3_conflictComes_7 22 rfl rfl)
theorem dX3_conflictComes_186 : decode cX3_conflictComes 186 = .ok (.iload 8, 2) := dk_21 8 (dk_at dksX3_conflictComes_8 0 rfl rfl)
theorem dX3_conflictComes_188 : decode cX3_conflictComes 188 = .ok (.isub, 1) := dk_100 (dk_at dksX3_conflictComes_8 2 rfl rfl)
theorem dX3_conflictComes_189 : decode cX3_conflictComes 189 = .ok (.iload 4, 2) := dk_21 4 (dk_at dksX3_conflictComes_8 3 rfl rfl)
theorem dX3_conflictComes_191 : decode cX3_conflictComes 191 = .ok (.iload 6, 2) := dk_21 6 (dk_at dksX3_conflictComes_8 5 rfl rfl)
theorem dX3_conflictComes_193 : decode cX3_conflictComes 193 = .ok (.iload 8, 2) := dk_21 8 (dk_at dksX3_conflictComes_8 7 rfl rfl)
theorem dX3_conflictComes_195 : decode cX3_conflictComes 195 = .ok (.isub, 1) := dk_100 (dk_at dksX3_conflictComes_8 9 rfl rfl)
theorem dX3_conflictComes_196 : decode cX3_conflictComes 196 = .ok (.iload 6, 2) := dk_21 6 (dk_at dksX3_conflictComes_8 10 rfl rfl)
theorem dX3_conflictComes_198 : decode cX3_conflictComes 198 = .ok (.invokevirtual 252, 3) := dk_182 0 252 (dk_at dksX3_conflictComes_8 12 rfl rfl)
theorem dX3_conflictComes_201 : decode cX3_conflictComes 201 = .ok (.return_, 1) := dk_177 (dk_at dksX3_conflictComes_8 15 rfl rfl)
abbrev cX3_chunks : ByteArray := prog_22_method_53_code
def yX3_chunks : MethodName := ⟨RX3, "chunks", "()I"⟩
def dkwX3_chunks_0 : List UInt8 := [42, 180, 1, 8, 153, 0, 14, 42, 42, 180, 0, 246, 182, 0, 138, 167, 0, 8, 42, 4, 182, 0, 130, 172]
abbrev dktX3_chunks_0 : List UInt8 := dkwX3_chunks_0 ++ []
theorem dksX3_chunks_0 : cX3_chunks.data.toList.drop 0 = dktX3_chunks_0 := by decide +kernel
theorem dX3_chunks_0 : decode cX3_chunks 0 = .ok (.aload_n 0, 1) := dk_42 (dk_at dksX3_chunks_0 0 rfl rfl)
theorem dX3_chunks_1 : decode cX3_chunks 1 = .ok (.getfield 264, 3) := dk_180 1 8 (dk_at dksX3_chunks_0 1 rfl rfl)
theorem dX3_chunks_4 : decode cX3_chunks 4 = .ok (.ifCond .eq 14, 3) := dk_153 0 14 (dk_at dksX3_chunks_0 4 rfl rfl)
theorem dX3_chunks_7 : decode cX3_chunks 7 = .ok (.aload_n 0, 1) := dk_42 (dk_at dksX3_chunks_0 7 rfl rfl)
theorem dX3_chunks_8 : decode cX3_chunks 8 = .ok (.aload_n 0, 1) := dk_42 (dk_at dksX3_chunks_0 8 rfl rfl)
theorem dX3_chunks_9 : decode cX3_chunks 9 = .ok (.getfield 246, 3) := dk_180 0 246 (dk_at dksX3_chunks_0 9 rfl rfl)
theorem dX3_chunks_12 : decode cX3_chunks 12 = .ok (.invokevirtual 138, 3) := dk_182 0 138 (dk_at dksX3_chunks_0 12 rfl rfl)
theorem dX3_chunks_15 : decode cX3_chunks 15 = .ok (.goto 8, 3) := dk_167 0 8 (dk_at dksX3_chunks_0 15 rfl rfl)
theorem dX3_chunks_18 : decode cX3_chunks 18 = .ok (.aload_n 0, 1) := dk_42 (dk_at dksX3_chunks_0 18 rfl rfl)
theorem dX3_chunks_19 : decode cX3_chunks 19 = .ok (.iconst 1, 1) := dk_4 (dk_at dksX3_chunks_0 19 rfl rfl)
theorem dX3_chunks_20 : decode cX3_chunks 20 = .ok (.invokevirtual 130, 3) := dk_182 0 130 (dk_at dksX3_chunks_0 20 rfl rfl)
theorem dX3_chunks_23 : decode cX3_chunks 23 = .ok (.ireturn, 1) := dk_172 (dk_at dksX3_chunks_0 23 rfl rfl)
abbrev cX3_chunk : ByteArray := prog_22_method_54_code
def yX3_chunk : MethodName := ⟨RX3, "chunk", "(II)I"⟩
def dkwX3_chunk_2 : List UInt8 := [16, 7, 27, 104, 28, 96, 46, 182, 0, 138, 167, 0, 8, 42, 6, 182, 0, 130, 172]
abbrev dktX3_chunk_2 : List UInt8 := dkwX3_chunk_2 ++ []
def dkwX3_chunk_1 : List UInt8 := [154, 0, 9, 42, 5, 182, 0, 130, 172, 28, 3, 16, 6, 184, 0, 119, 153, 0, 21, 42, 42, 180, 0, 94]
abbrev dktX3_chunk_1 : List UInt8 := dkwX3_chunk_1 ++ dktX3_chunk_2
def dkwX3_chunk_0 : List UInt8 := [42, 180, 1, 8, 154, 0, 9, 42, 4, 182, 0, 130, 172, 27, 3, 42, 180, 0, 246, 4, 100, 184, 0, 119]
abbrev dktX3_chunk_0 : List UInt8 := dkwX3_chunk_0 ++ dktX3_chunk_1
theorem dksX3_chunk_0 : cX3_chunk.data.toList.drop 0 = dktX3_chunk_0 := by decide +kernel
theorem dksX3_chunk_1 : cX3_chunk.data.toList.drop 24 = dktX3_chunk_1 := dk_seg dksX3_chunk_0 24 rfl rfl
theorem dksX3_chunk_2 : cX3_chunk.data.toList.drop 48 = dktX3_chunk_2 := dk_seg dksX3_chunk_1 24 rfl rfl
theorem dX3_chunk_0 : decode cX3_chunk 0 = .ok (.aload_n 0, 1) := dk_42 (dk_at dksX3_chunk_0 0 rfl rfl)
theorem dX3_chunk_1 : decode cX3_chunk 1 = .ok (.getfield 264, 3) := dk_180 1 8 (dk_at dksX3_chunk_0 1 rfl rfl)
theorem dX3_chunk_4 : decode cX3_chunk 4 = .ok (.ifCond .ne 9, 3) := dk_154 0 9 (dk_at dksX3_chunk_0 4 rfl rfl)
theorem dX3_chunk_7 : decode cX3_chunk 7 = .ok (.aload_n 0, 1) := dk_42 (dk_at dksX3_chunk_0 7 rfl rfl)
theorem dX3_chunk_8 : decode cX3_chunk 8 = .ok (.iconst 1, 1) := dk_4 (dk_at dksX3_chunk_0 8 rfl rfl)
theorem dX3_chunk_9 : decode cX3_chunk 9 = .ok (.invokevirtual 130, 3) := dk_182 0 130 (dk_at dksX3_chunk_0 9 rfl rfl)
theorem dX3_chunk_12 : decode cX3_chunk 12 = .ok (.ireturn, 1) := dk_172 (dk_at dksX3_chunk_0 12 rfl rfl)
theorem dX3_chunk_13 : decode cX3_chunk 13 = .ok (.iload_n 1, 1) := dk_27 (dk_at dksX3_chunk_0 13 rfl rfl)
theorem dX3_chunk_14 : decode cX3_chunk 14 = .ok (.iconst 0, 1) := dk_3 (dk_at dksX3_chunk_0 14 rfl rfl)
theorem dX3_chunk_15 : decode cX3_chunk 15 = .ok (.aload_n 0, 1) := dk_42 (dk_at dksX3_chunk_0 15 rfl rfl)
theorem dX3_chunk_16 : decode cX3_chunk 16 = .ok (.getfield 246, 3) := dk_180 0 246 (dk_at dksX3_chunk_0 16 rfl rfl)
theorem dX3_chunk_19 : decode cX3_chunk 19 = .ok (.iconst 1, 1) := dk_4 (dk_at dksX3_chunk_0 19 rfl rfl)
theorem dX3_chunk_20 : decode cX3_chunk 20 = .ok (.isub, 1) := dk_100 (dk_at dksX3_chunk_0 20 rfl rfl)
theorem dX3_chunk_21 : decode cX3_chunk 21 = .ok (.invokestatic 119, 3) := dk_184 0 119 (dk_at dksX3_chunk_0 21 rfl rfl)
theorem dX3_chunk_24 : decode cX3_chunk 24 = .ok (.ifCond .ne 9, 3) := dk_154 0 9 (dk_at dksX3_chunk_1 0 rfl rfl)
theorem dX3_chunk_27 : decode cX3_chunk 27 = .ok (.aload_n 0, 1) := dk_42 (dk_at dksX3_chunk_1 3 rfl rfl)
theorem dX3_chunk_28 : decode cX3_chunk 28 = .ok (.iconst 2, 1) := dk_5 (dk_at dksX3_chunk_1 4 rfl rfl)
theorem dX3_chunk_29 : decode cX3_chunk 29 = .ok (.invokevirtual 130, 3) := dk_182 0 130 (dk_at dksX3_chunk_1 5 rfl rfl)
theorem dX3_chunk_32 : decode cX3_chunk 32 = .ok (.ireturn, 1) := dk_172 (dk_at dksX3_chunk_1 8 rfl rfl)
theorem dX3_chunk_33 : decode cX3_chunk 33 = .ok (.iload_n 2, 1) := dk_28 (dk_at dksX3_chunk_1 9 rfl rfl)
theorem dX3_chunk_34 : decode cX3_chunk 34 = .ok (.iconst 0, 1) := dk_3 (dk_at dksX3_chunk_1 10 rfl rfl)
theorem dX3_chunk_35 : decode cX3_chunk 35 = .ok (.bipush 6, 2) := dk_16 6 (dk_at dksX3_chunk_1 11 rfl rfl)
theorem dX3_chunk_37 : decode cX3_chunk 37 = .ok (.invokestatic 119, 3) := dk_184 0 119 (dk_at dksX3_chunk_1 13 rfl rfl)
theorem dX3_chunk_40 : decode cX3_chunk 40 = .ok (.ifCond .eq 21, 3) := dk_153 0 21 (dk_at dksX3_chunk_1 16 rfl rfl)
theorem dX3_chunk_43 : decode cX3_chunk 43 = .ok (.aload_n 0, 1) := dk_42 (dk_at dksX3_chunk_1 19 rfl rfl)
theorem dX3_chunk_44 : decode cX3_chunk 44 = .ok (.aload_n 0, 1) := dk_42 (dk_at dksX3_chunk_1 20 rfl rfl)
theorem dX3_chunk_45 : decode cX3_chunk 45 = .ok (.getfield 94, 3) := dk_180 0 94 (dk_at dksX3_chunk_1 21 rfl rfl)
theorem dX3_chunk_48 : decode cX3_chunk 48 = .ok (.bipush 7, 2) := dk_16 7 (dk_at dksX3_chunk_2 0 rfl rfl)
theorem dX3_chunk_50 : decode cX3_chunk 50 = .ok (.iload_n 1, 1) := dk_27 (dk_at dksX3_chunk_2 2 rfl rfl)
theorem dX3_chunk_51 : decode cX3_chunk 51 = .ok (.imul, 1) := dk_104 (dk_at dksX3_chunk_2 3 rfl rfl)
theorem dX3_chunk_52 : decode cX3_chunk 52 = .ok (.iload_n 2, 1) := dk_28 (dk_at dksX3_chunk_2 4 rfl rfl)
theorem dX3_chunk_53 : decode cX3_chunk 53 = .ok (.iadd, 1) := dk_96 (dk_at dksX3_chunk_2 5 rfl rfl)
theorem dX3_chunk_54 : decode cX3_chunk 54 = .ok (.iaload, 1) := dk_46 (dk_at dksX3_chunk_2 6 rfl rfl)
theorem dX3_chunk_55 : decode cX3_chunk 55 = .ok (.invokevirtual 138, 3) := dk_182 0 138 (dk_at dksX3_chunk_2 7 rfl rfl)
theorem dX3_chunk_58 : decode cX3_chunk 58 = .ok (.goto 8, 3) := dk_167 0 8 (dk_at dksX3_chunk_2 10 rfl rfl)
theorem dX3_chunk_61 : decode cX3_chunk 61 = .ok (.aload_n 0, 1) := dk_42 (dk_at dksX3_chunk_2 13 rfl rfl)
theorem dX3_chunk_62 : decode cX3_chunk 62 = .ok (.iconst 3, 1) := dk_6 (dk_at dksX3_chunk_2 14 rfl rfl)
theorem dX3_chunk_63 : decode cX3_chunk 63 = .ok (.invokevirtual 130, 3) := dk_182 0 130 (dk_at dksX3_chunk_2 15 rfl rfl)
theorem dX3_chunk_66 : decode cX3_chunk 66 = .ok (.ireturn, 1) := dk_172 (dk_at dksX3_chunk_2 18 rfl rfl)
abbrev cX3_resolve : ByteArray := prog_22_method_59_code
def yX3_resolve : MethodName := ⟨RX3, "resolve", "(II)I"⟩
def dkwX3_resolve_5 : List UInt8 := [182, 0, 138, 172]
abbrev dktX3_resolve_5 : List UInt8 := dkwX3_resolve_5 ++ []
def dkwX3_resolve_4 : List UInt8 := [16, 7, 21, 4, 104, 28, 182, 1, 30, 132, 3, 255, 132, 4, 1, 167, 255, 208, 42, 42, 180, 0, 158]
abbrev dktX3_resolve_4 : List UInt8 := dkwX3_resolve_4 ++ dktX3_resolve_5
def dkwX3_resolve_3 : List UInt8 := [180, 0, 94, 16, 7, 21, 4, 104, 46, 7, 160, 0, 25, 29, 154, 0, 18, 42, 3, 181, 0, 158, 42]
abbrev dktX3_resolve_3 : List UInt8 := dkwX3_resolve_3 ++ dktX3_resolve_4
def dkwX3_resolve_2 : List UInt8 := [42, 180, 0, 97, 27, 28, 79, 27, 62, 3, 54, 4, 21, 4, 42, 180, 0, 246, 162, 0, 45, 42]
abbrev dktX3_resolve_2 : List UInt8 := dkwX3_resolve_2 ++ dktX3_resolve_3
def dkwX3_resolve_1 : List UInt8 := [154, 0, 9, 42, 5, 182, 0, 130, 172, 28, 3, 7, 184, 0, 119, 154, 0, 9, 42, 6, 182, 0, 130, 172]
abbrev dktX3_resolve_1 : List UInt8 := dkwX3_resolve_1 ++ dktX3_resolve_2
def dkwX3_resolve_0 : List UInt8 := [42, 180, 1, 8, 154, 0, 9, 42, 4, 182, 0, 130, 172, 27, 3, 42, 180, 0, 249, 4, 100, 184, 0, 119]
abbrev dktX3_resolve_0 : List UInt8 := dkwX3_resolve_0 ++ dktX3_resolve_1
theorem dksX3_resolve_0 : cX3_resolve.data.toList.drop 0 = dktX3_resolve_0 := by decide +kernel
theorem dksX3_resolve_1 : cX3_resolve.data.toList.drop 24 = dktX3_resolve_1 := dk_seg dksX3_resolve_0 24 rfl rfl
theorem dksX3_resolve_2 : cX3_resolve.data.toList.drop 48 = dktX3_resolve_2 := dk_seg dksX3_resolve_1 24 rfl rfl
theorem dksX3_resolve_3 : cX3_resolve.data.toList.drop 70 = dktX3_resolve_3 := dk_seg dksX3_resolve_2 22 rfl rfl
theorem dksX3_resolve_4 : cX3_resolve.data.toList.drop 93 = dktX3_resolve_4 := dk_seg dksX3_resolve_3 23 rfl rfl
theorem dksX3_resolve_5 : cX3_resolve.data.toList.drop 116 = dktX3_resolve_5 := dk_seg dksX3_resolve_4 23 rfl rfl
theorem dX3_resolve_0 : decode cX3_resolve 0 = .ok (.aload_n 0, 1) := dk_42 (dk_at dksX3_resolve_0 0 rfl rfl)
theorem dX3_resolve_1 : decode cX3_resolve 1 = .ok (.getfield 264, 3) := dk_180 1 8 (dk_at dksX3_resolve_0 1 rfl rfl)
theorem dX3_resolve_4 : decode cX3_resolve 4 = .ok (.ifCond .ne 9, 3) := dk_154 0 9 (dk_at dksX3_resolve_0 4 rfl rfl)
theorem dX3_resolve_7 : decode cX3_resolve 7 = .ok (.aload_n 0, 1) := dk_42 (dk_at dksX3_resolve_0 7 rfl rfl)
theorem dX3_resolve_8 : decode cX3_resolve 8 = .ok (.iconst 1, 1) := dk_4 (dk_at dksX3_resolve_0 8 rfl rfl)
theorem dX3_resolve_9 : decode cX3_resolve 9 = .ok (.invokevirtual 130, 3) := dk_182 0 130 (dk_at dksX3_resolve_0 9 rfl rfl)
theorem dX3_resolve_12 : decode cX3_resolve 12 = .ok (.ireturn, 1) := dk_172 (dk_at dksX3_resolve_0 12 rfl rfl)
theorem dX3_resolve_13 : decode cX3_resolve 13 = .ok (.iload_n 1, 1) := dk_27 (dk_at dksX3_resolve_0 13 rfl rfl)
theorem dX3_resolve_14 : decode cX3_resolve 14 = .ok (.iconst 0, 1) := dk_3 (dk_at dksX3_resolve_0 14 rfl rfl)
theorem dX3_resolve_15 : decode cX3_resolve 15 = .ok (.aload_n 0, 1) := dk_42 (dk_at dksX3_resolve_0 15 rfl rfl)
theorem dX3_resolve_16 : decode cX3_resolve 16 = .ok (.getfield 249, 3) := dk_180 0 249 (dk_at dksX3_resolve_0 16 rfl rfl)
theorem dX3_resolve_19 : decode cX3_resolve 19 = .ok (.iconst 1, 1) := dk_4 (dk_at dksX3_resolve_0 19 rfl rfl)
theorem dX3_resolve_20 : decode cX3_resolve 20 = .ok (.isub, 1) := dk_100 (dk_at dksX3_resolve_0 20 rfl rfl)
theorem dX3_resolve_21 : decode cX3_resolve 21 = .ok (.invokestatic 119, 3) := dk_184 0 119 (dk_at dksX3_resolve_0 21 rfl rfl)
theorem dX3_resolve_24 : decode cX3_resolve 24 = .ok (.ifCond .ne 9, 3) := dk_154 0 9 (dk_at dksX3_resolve_1 0 rfl rfl)
theorem dX3_resolve_27 : decode cX3_resolve 27 = .ok (.aload_n 0, 1) := dk_42 (dk_at dksX3_resolve_1 3 rfl rfl)
theorem dX3_resolve_28 : decode cX3_resolve 28 = .ok (.iconst 2, 1) := dk_5 (dk_at dksX3_resolve_1 4 rfl rfl)
theorem dX3_resolve_29 : decode cX3_resolve 29 = .ok (.invokevirtual 130, 3) := dk_182 0 130 (dk_at dksX3_resolve_1 5 rfl rfl)
theorem dX3_resolve_32 : decode cX3_resolve 32 = .ok (.ireturn, 1) := dk_172 (dk_at dksX3_resolve_1 8 rfl rfl)
theorem dX3_resolve_33 : decode cX3_resolve 33 = .ok (.iload_n 2, 1) := dk_28 (dk_at dksX3_resolve_1 9 rfl rfl)
theorem dX3_resolve_34 : decode cX3_resolve 34 = .ok (.iconst 0, 1) := dk_3 (dk_at dksX3_resolve_1 10 rfl rfl)
theorem dX3_resolve_35 : decode cX3_resolve 35 = .ok (.iconst 4, 1) := dk_7 (dk_at dksX3_resolve_1 11 rfl rfl)
theorem dX3_resolve_36 : decode cX3_resolve 36 = .ok (.invokestatic 119, 3) := dk_184 0 119 (dk_at dksX3_resolve_1 12 rfl rfl)
theorem dX3_resolve_39 : decode cX3_resolve 39 = .ok (.ifCond .ne 9, 3) := dk_154 0 9 (dk_at dksX3_resolve_1 15 rfl rfl)
theorem dX3_resolve_42 : decode cX3_resolve 42 = .ok (.aload_n 0, 1) := dk_42 (dk_at dksX3_resolve_1 18 rfl rfl)
theorem dX3_resolve_43 : decode cX3_resolve 43 = .ok (.iconst 3, 1) := dk_6 (dk_at dksX3_resolve_1 19 rfl rfl)
theorem dX3_resolve_44 : decode cX3_resolve 44 = .ok (.invokevirtual 130, 3) := dk_182 0 130 (dk_at dksX3_resolve_1 20 rfl rfl)
theorem dX3_resolve_47 : decode cX3_resolve 47 = .ok (.ireturn, 1) := dk_172 (dk_at dksX3_resolve_1 23 rfl rfl)
theorem dX3_resolve_48 : decode cX3_resolve 48 = .ok (.aload_n 0, 1) := dk_42 (dk_at dksX3_resolve_2 0 rfl rfl)
theorem dX3_resolve_49 : decode cX3_resolve 49 = .ok (.getfield 97, 3) := dk_180 0 97 (dk_at dksX3_resolve_2 1 rfl rfl)
theorem dX3_resolve_52 : decode cX3_resolve 52 = .ok (.iload_n 1, 1) := dk_27 (dk_at dksX3_resolve_2 4 rfl rfl)
theorem dX3_resolve_53 : decode cX3_resolve 53 = .ok (.iload_n 2, 1) := dk_28 (dk_at dksX3_resolve_2 5 rfl rfl)
theorem dX3_resolve_54 : decode cX3_resolve 54 = .ok (.iastore, 1) := dk_79 (dk_at dksX3_resolve_2 6 rfl rfl)
theorem dX3_resolve_55 : decode cX3_resolve 55 = .ok (.iload_n 1, 1) := dk_27 (dk_at dksX3_resolve_2 7 rfl rfl)
theorem dX3_resolve_56 : decode cX3_resolve 56 = .ok (.istore_n 3, 1) := dk_62 (dk_at dksX3_resolve_2 8 rfl rfl)
theorem dX3_resolve_57 : decode cX3_resolve 57 = .ok (.iconst 0, 1) := dk_3 (dk_at dksX3_resolve_2 9 rfl rfl)
theorem dX3_resolve_58 : decode cX3_resolve 58 = .ok (.istore 4, 2) := dk_54 4 (dk_at dksX3_resolve_2 10 rfl rfl)
theorem dX3_resolve_60 : decode cX3_resolve 60 = .ok (.iload 4, 2) := dk_21 4 (dk_at dksX3_resolve_2 12 rfl rfl)
theorem dX3_resolve_62 : decode cX3_resolve 62 = .ok (.aload_n 0, 1) := dk_42 (dk_at dksX3_resolve_2 14 rfl rfl)
theorem dX3_resolve_63 : decode cX3_resolve 63 = .ok (.getfield 246, 3) := dk_180 0 246 (dk_at dksX3_resolve_2 15 rfl rfl)
theorem dX3_resolve_66 : decode cX3_resolve 66 = .ok (.if_icmp .ge 45, 3) := dk_162 0 45 (dk_at dksX3_resolve_2 18 rfl rfl)
theorem dX3_resolve_69 : decode cX3_resolve 69 = .ok (.aload_n 0, 1) := dk_42 (dk_at dksX3_resolve_2 21 rfl rfl)
theorem dX3_resolve_70 : decode cX3_resolve 70 = .ok (.getfield 94, 3) := dk_180 0 94 (dk_at dksX3_resolve_3 0 rfl rfl)
theorem dX3_resolve_73 : decode cX3_resolve 73 = .ok (.bipush 7, 2) := dk_16 7 (dk_at dksX3_resolve_3 3 rfl rfl)
theorem dX3_resolve_75 : decode cX3_resolve 75 = .ok (.iload 4, 2) := dk_21 4 (dk_at dksX3_resolve_3 5 rfl rfl)
theorem dX3_resolve_77 : decode cX3_resolve 77 = .ok (.imul, 1) := dk_104 (dk_at dksX3_resolve_3 7 rfl rfl)
theorem dX3_resolve_78 : decode cX3_resolve 78 = .ok (.iaload, 1) := dk_46 (dk_at dksX3_resolve_3 8 rfl rfl)
theorem dX3_resolve_79 : decode cX3_resolve 79 = .ok (.iconst 4, 1) := dk_7 (dk_at dksX3_resolve_3 9 rfl rfl)
theorem dX3_resolve_80 : decode cX3_resolve 80 = .ok (.if_icmp .ne 25, 3) := dk_160 0 25 (dk_at dksX3_resolve_3 10 rfl rfl)
theorem dX3_resolve_83 : decode cX3_resolve 83 = .ok (.iload_n 3, 1) := dk_29 (dk_at dksX3_resolve_3 13 rfl rfl)
theorem dX3_resolve_84 : decode cX3_resolve 84 = .ok (.ifCond .ne 18, 3) := dk_154 0 18 (dk_at dksX3_resolve_3 14 rfl rfl)
theorem dX3_resolve_87 : decode cX3_resolve 87 = .ok (.aload_n 0, 1) := dk_42 (dk_at dksX3_resolve_3 17 rfl rfl)
theorem dX3_resolve_88 : decode cX3_resolve 88 = .ok (.iconst 0, 1) := dk_3 (dk_at dksX3_resolve_3 18 rfl rfl)
theorem dX3_resolve_89 : decode cX3_resolve 89 = .ok (.putfield 158, 3) := dk_181 0 158 (dk_at dksX3_resolve_3 19 rfl rfl)
theorem dX3_resolve_92 : decode cX3_resolve 92 = .ok (.aload_n 0, 1) := dk_42 (dk_at dksX3_resolve_3 22 rfl rfl)
theorem dX3_resolve_93 : decode cX3_resolve 93 = .ok (.bipush 7, 2) := dk_16 7 (dk_at dksX3_resolve_4 0 rfl rfl)
theorem dX3_resolve_95 : decode cX3_resolve 95 = .ok (.iload 4, 2) := dk_21 4 (dk_at dksX3_resolve_4 2 rfl rfl)
theorem dX3_resolve_97 : decode cX3_resolve 97 = .ok (.imul, 1) := dk_104 (dk_at dksX3_resolve_4 4 rfl rfl)
theorem dX3_resolve_98 : decode cX3_resolve 98 = .ok (.iload_n 2, 1) := dk_28 (dk_at dksX3_resolve_4 5 rfl rfl)
theorem dX3_resolve_99 : decode cX3_resolve 99 = .ok (.invokevirtual 286, 3) := dk_182 1 30 (dk_at dksX3_resolve_4 6 rfl rfl)
theorem dX3_resolve_102 : decode cX3_resolve 102 = .ok (.iinc 3 (-1), 3) := dk_132 3 255 (dk_at dksX3_resolve_4 9 rfl rfl)
theorem dX3_resolve_105 : decode cX3_resolve 105 = .ok (.iinc 4 1, 3) := dk_132 4 1 (dk_at dksX3_resolve_4 12 rfl rfl)
theorem dX3_resolve_108 : decode cX3_resolve 108 = .ok (.goto (-48), 3) := dk_167 255 208 (dk_at dksX3_resolve_4 15 rfl rfl)
theorem dX3_resolve_111 : decode cX3_resolve 111 = .ok (.aload_n 0, 1) := dk_42 (dk_at dksX3_resolve_4 18 rfl rfl)
theorem dX3_resolve_112 : decode cX3_resolve 112 = .ok (.aload_n 0, 1) := dk_42 (dk_at dksX3_resolve_4 19 rfl rfl)
theorem dX3_resolve_113 : decode cX3_resolve 113 = .ok (.getfield 158, 3) := dk_180 0 158 (dk_at dksX3_resolve_4 20 rfl rfl)
theorem dX3_resolve_116 : decode cX3_resolve 116 = .ok (.invokevirtual 138, 3) := dk_182 0 138 (dk_at dksX3_resolve_5 0 rfl rfl)
theorem dX3_resolve_119 : decode cX3_resolve 119 = .ok (.ireturn, 1) := dk_172 (dk_at dksX3_resolve_5 3 rfl rfl)
abbrev cX3_resolvedOut : ByteArray := prog_22_method_57_code
def yX3_resolvedOut : MethodName := ⟨RX3, "resolvedOut", "(II)V"⟩
def dkwX3_resolvedOut_7 : List UInt8 := [2, 160, 0, 9, 42, 16, 253, 182, 1, 23, 177]
abbrev dktX3_resolvedOut_7 : List UInt8 := dkwX3_resolvedOut_7 ++ []
def dkwX3_resolvedOut_6 : List UInt8 := [42, 180, 0, 79, 42, 180, 0, 94, 27, 4, 96, 46, 42, 180, 0, 94, 27, 5, 96, 46, 182, 1, 26, 28]
abbrev dktX3_resolvedOut_6 : List UInt8 := dkwX3_resolvedOut_6 ++ dktX3_resolvedOut_7
def dkwX3_resolvedOut_5 : List UInt8 := [180, 0, 94, 27, 6, 96, 46, 42, 180, 0, 94, 27, 7, 96, 46, 182, 1, 26, 28, 7, 160, 0, 27, 42]
abbrev dktX3_resolvedOut_5 : List UInt8 := dkwX3_resolvedOut_5 ++ dktX3_resolvedOut_6
def dkwX3_resolvedOut_4 : List UInt8 := [180, 0, 94, 27, 16, 6, 96, 46, 182, 1, 26, 28, 6, 160, 0, 27, 42, 42, 180, 0, 82, 42]
abbrev dktX3_resolvedOut_4 : List UInt8 := dkwX3_resolvedOut_4 ++ dktX3_resolvedOut_5
def dkwX3_resolvedOut_3 : List UInt8 := [159, 0, 8, 28, 2, 160, 0, 28, 42, 42, 180, 0, 85, 42, 180, 0, 94, 27, 8, 96, 46, 42]
abbrev dktX3_resolvedOut_3 : List UInt8 := dkwX3_resolvedOut_3 ++ dktX3_resolvedOut_4
def dkwX3_resolvedOut_2 : List UInt8 := [28, 2, 160, 0, 9, 42, 16, 254, 182, 1, 23, 28, 4, 159, 0, 18, 28, 5, 159, 0, 13, 28, 6]
abbrev dktX3_resolvedOut_2 : List UInt8 := dkwX3_resolvedOut_2 ++ dktX3_resolvedOut_3
def dkwX3_resolvedOut_1 : List UInt8 := [42, 42, 180, 0, 82, 42, 180, 0, 94, 27, 6, 96, 46, 42, 180, 0, 94, 27, 7, 96, 46, 182, 1, 26]
abbrev dktX3_resolvedOut_1 : List UInt8 := dkwX3_resolvedOut_1 ++ dktX3_resolvedOut_2
def dkwX3_resolvedOut_0 : List UInt8 := [28, 2, 160, 0, 8, 42, 2, 182, 1, 23, 28, 153, 0, 13, 28, 5, 159, 0, 8, 28, 2, 160, 0, 27]
abbrev dktX3_resolvedOut_0 : List UInt8 := dkwX3_resolvedOut_0 ++ dktX3_resolvedOut_1
theorem dksX3_resolvedOut_0 : cX3_resolvedOut.data.toList.drop 0 = dktX3_resolvedOut_0 := by decide +kernel
theorem dksX3_resolvedOut_1 : cX3_resolvedOut.data.toList.drop 24 = dktX3_resolvedOut_1 := dk_seg dksX3_resolvedOut_0 24 rfl rfl
theorem dksX3_resolvedOut_2 : cX3_resolvedOut.data.toList.drop 48 = dktX3_resolvedOut_2 := dk_seg dksX3_resolvedOut_1 24 rfl rfl
theorem dksX3_resolvedOut_3 : cX3_resolvedOut.data.toList.drop 71 = dktX3_resolvedOut_3 := dk_seg dksX3_resolvedOut_2 23 rfl rfl
theorem dksX3_resolvedOut_4 : cX3_resolvedOut.data.toList.drop 93 = dktX3_resolvedOut_4 := dk_seg dksX3_resolvedOut_3 22 rfl rfl
theorem dksX3_resolvedOut_5 : cX3_resolvedOut.data.toList.drop 115 = dktX3_resolvedOut_5 := dk_seg dksX3_resolvedOut_4 22 rfl rfl
theorem dksX3_resolvedOut_6 : cX3_resolvedOut.data.toList.drop 139 = dktX3_resolvedOut_6 := dk_seg dksX3_resolvedOut_5 24 rfl rfl
theorem dksX3_resolvedOut_7 : cX3_resolvedOut.data.toList.drop 163 = dktX3_resolvedOut_7 := dk_seg dksX3_resolvedOut_6 24 rfl rfl
theorem dX3_resolvedOut_0 : decode cX3_resolvedOut 0 = .ok (.iload_n 2, 1) := dk_28 (dk_at dksX3_resolvedOut_0 0 rfl rfl)
theorem dX3_resolvedOut_1 : decode cX3_resolvedOut 1 = .ok (.iconst (-1), 1) := dk_2 (dk_at dksX3_resolvedOut_0 1 rfl rfl)
theorem dX3_resolvedOut_2 : decode cX3_resolvedOut 2 = .ok (.if_icmp .ne 8, 3) := dk_160 0 8 (dk_at dksX3_resolvedOut_0 2 rfl rfl)
theorem dX3_resolvedOut_5 : decode cX3_resolvedOut 5 = .ok (.aload_n 0, 1) := dk_42 (dk_at dksX3_resolvedOut_0 5 rfl rfl)
theorem dX3_resolvedOut_6 : decode cX3_resolvedOut 6 = .ok (.iconst (-1), 1) := dk_2 (dk_at dksX3_resolvedOut_0 6 rfl rfl)
theorem dX3_resolvedOut_7 : decode cX3_resolvedOut 7 = .ok (.invokevirtual 279, 3) := dk_182 1 23 (dk_at dksX3_resolvedOut_0 7 rfl rfl)
theorem dX3_resolvedOut_10 : decode cX3_resolvedOut 10 = .ok (.iload_n 2, 1) := dk_28 (dk_at dksX3_resolvedOut_0 10 rfl rfl)
theorem dX3_resolvedOut_11 : decode cX3_resolvedOut 11 = .ok (.ifCond .eq 13, 3) := dk_153 0 13 (dk_at dksX3_resolvedOut_0 11 rfl rfl)
theorem dX3_resolvedOut_14 : decode cX3_resolvedOut 14 = .ok (.iload_n 2, 1) := dk_28 (dk_at dksX3_resolvedOut_0 14 rfl rfl)
theorem dX3_resolvedOut_15 : decode cX3_resolvedOut 15 = .ok (.iconst 2, 1) := dk_5 (dk_at dksX3_resolvedOut_0 15 rfl rfl)
theorem dX3_resolvedOut_16 : decode cX3_resolvedOut 16 = .ok (.if_icmp .eq 8, 3) := dk_159 0 8 (dk_at dksX3_resolvedOut_0 16 rfl rfl)
theorem dX3_resolvedOut_19 : decode cX3_resolvedOut 19 = .ok (.iload_n 2, 1) := dk_28 (dk_at dksX3_resolvedOut_0 19 rfl rfl)
theorem dX3_resolvedOut_20 : decode cX3_resolvedOut 20 = .ok (.iconst (-1), 1) := dk_2 (dk_at dksX3_resolvedOut_0 20 rfl rfl)
theorem dX3_resolvedOut_21 : decode cX3_resolvedOut 21 = .ok (.if_icmp .ne 27, 3) := dk_160 0 27 (dk_at dksX3_resolvedOut_0 21 rfl rfl)
theorem dX3_resolvedOut_24 : decode cX3_resolvedOut 24 = .ok (.aload_n 0, 1) := dk_42 (dk_at dksX3_resolvedOut_1 0 rfl rfl)
theorem dX3_resolvedOut_25 : decode cX3_resolvedOut 25 = .ok (.aload_n 0, 1) := dk_42 (dk_at dksX3_resolvedOut_1 1 rfl rfl)
theorem dX3_resolvedOut_26 : decode cX3_resolvedOut 26 = .ok (.getfield 82, 3) := dk_180 0 82 (dk_at dksX3_resolvedOut_1 2 rfl rfl)
theorem dX3_resolvedOut_29 : decode cX3_resolvedOut 29 = .ok (.aload_n 0, 1) := dk_42 (dk_at dksX3_resolvedOut_1 5 rfl rfl)
theorem dX3_resolvedOut_30 : decode cX3_resolvedOut 30 = .ok (.getfield 94, 3) := dk_180 0 94 (dk_at dksX3_resolvedOut_1 6 rfl rfl)
theorem dX3_resolvedOut_33 : decode cX3_resolvedOut 33 = .ok (.iload_n 1, 1) := dk_27 (dk_at dksX3_resolvedOut_1 9 rfl rfl)
theorem dX3_resolvedOut_34 : decode cX3_resolvedOut 34 = .ok (.iconst 3, 1) := dk_6 (dk_at dksX3_resolvedOut_1 10 rfl rfl)
theorem dX3_resolvedOut_35 : decode cX3_resolvedOut 35 = .ok (.iadd, 1) := dk_96 (dk_at dksX3_resolvedOut_1 11 rfl rfl)
theorem dX3_resolvedOut_36 : decode cX3_resolvedOut 36 = .ok (.iaload, 1) := dk_46 (dk_at dksX3_resolvedOut_1 12 rfl rfl)
theorem dX3_resolvedOut_37 : decode cX3_resolvedOut 37 = .ok (.aload_n 0, 1) := dk_42 (dk_at dksX3_resolvedOut_1 13 rfl rfl)
theorem dX3_resolvedOut_38 : decode cX3_resolvedOut 38 = .ok (.getfield 94, 3) := dk_180 0 94 (dk_at dksX3_resolvedOut_1 14 rfl rfl)
theorem dX3_resolvedOut_41 : decode cX3_resolvedOut 41 = .ok (.iload_n 1, 1) := dk_27 (dk_at dksX3_resolvedOut_1 17 rfl rfl)
theorem dX3_resolvedOut_42 : decode cX3_resolvedOut 42 = .ok (.iconst 4, 1) := dk_7 (dk_at dksX3_resolvedOut_1 18 rfl rfl)
theorem dX3_resolvedOut_43 : decode cX3_resolvedOut 43 = .ok (.iadd, 1) := dk_96 (dk_at dksX3_resolvedOut_1 19 rfl rfl)
theorem dX3_resolvedOut_44 : decode cX3_resolvedOut 44 = .ok (.iaload, 1) := dk_46 (dk_at dksX3_resolvedOut_1 20 rfl rfl)
theorem dX3_resolvedOut_45 : decode cX3_resolvedOut 45 = .ok (.invokevirtual 282, 3) := dk_182 1 26 (dk_at dksX3_resolvedOut_1 21 rfl rfl)
theorem dX3_resolvedOut_48 : decode cX3_resolvedOut 48 = .ok (.iload_n 2, 1) := dk_28 (dk_at dksX3_resolvedOut_2 0 rfl rfl)
theorem dX3_resolvedOut_49 : decode cX3_resolvedOut 49 = .ok (.iconst (-1), 1) := dk_2 (dk_at dksX3_resolvedOut_2 1 rfl rfl)
theorem dX3_resolvedOut_50 : decode cX3_resolvedOut 50 = .ok (.if_icmp .ne 9, 3) := dk_160 0 9 (dk_at dksX3_resolvedOut_2 2 rfl rfl)
theorem dX3_resolvedOut_53 : decode cX3_resolvedOut 53 = .ok (.aload_n 0, 1) := dk_42 (dk_at dksX3_resolvedOut_2 5 rfl rfl)
theorem dX3_resolvedOut_54 : decode cX3_resolvedOut 54 = .ok (.bipush (-2), 2) := dk_16 254 (dk_at dksX3_resolvedOut_2 6 rfl rfl)
theorem dX3_resolvedOut_56 : decode cX3_resolvedOut 56 = .ok (.invokevirtual 279, 3) := dk_182 1 23 (dk_at dksX3_resolvedOut_2 8 rfl rfl)
theorem dX3_resolvedOut_59 : decode cX3_resolvedOut 59 = .ok (.iload_n 2, 1) := dk_28 (dk_at dksX3_resolvedOut_2 11 rfl rfl)
theorem dX3_resolvedOut_60 : decode cX3_resolvedOut 60 = .ok (.iconst 1, 1) := dk_4 (dk_at dksX3_resolvedOut_2 12 rfl rfl)
theorem dX3_resolvedOut_61 : decode cX3_resolvedOut 61 = .ok (.if_icmp .eq 18, 3) := dk_159 0 18 (dk_at dksX3_resolvedOut_2 13 rfl rfl)
theorem dX3_resolvedOut_64 : decode cX3_resolvedOut 64 = .ok (.iload_n 2, 1) := dk_28 (dk_at dksX3_resolvedOut_2 16 rfl rfl)
theorem dX3_resolvedOut_65 : decode cX3_resolvedOut 65 = .ok (.iconst 2, 1) := dk_5 (dk_at dksX3_resolvedOut_2 17 rfl rfl)
theorem dX3_resolvedOut_66 : decode cX3_resolvedOut 66 = .ok (.if_icmp .eq 13, 3) := dk_159 0 13 (dk_at dksX3_resolvedOut_2 18 rfl rfl)
theorem dX3_resolvedOut_69 : decode cX3_resolvedOut 69 = .ok (.iload_n 2, 1) := dk_28 (dk_at dksX3_resolvedOut_2 21 rfl rfl)
theorem dX3_resolvedOut_70 : decode cX3_resolvedOut 70 = .ok (.iconst 3, 1) := dk_6 (dk_at dksX3_resolvedOut_2 22 rfl rfl)
theorem dX3_resolvedOut_71 : decode cX3_resolvedOut 71 = .ok (.if_icmp .eq 8, 3) := dk_159 0 8 (dk_at dksX3_resolvedOut_3 0 rfl rfl)
theorem dX3_resolvedOut_74 : decode cX3_resolvedOut 74 = .ok (.iload_n 2, 1) := dk_28 (dk_at dksX3_resolvedOut_3 3 rfl rfl)
theorem dX3_resolvedOut_75 : decode cX3_resolvedOut 75 = .ok (.iconst (-1), 1) := dk_2 (dk_at dksX3_resolvedOut_3 4 rfl rfl)
theorem dX3_resolvedOut_76 : decode cX3_resolvedOut 76 = .ok (.if_icmp .ne 28, 3) := dk_160 0 28 (dk_at dksX3_resolvedOut_3 5 rfl rfl)
theorem dX3_resolvedOut_79 : decode cX3_resolvedOut 79 = .ok (.aload_n 0, 1) := dk_42 (dk_at dksX3_resolvedOut_3 8 rfl rfl)
theorem dX3_resolvedOut_80 : decode cX3_resolvedOut 80 = .ok (.aload_n 0, 1) := dk_42 (dk_at dksX3_resolvedOut_3 9 rfl rfl)
theorem dX3_resolvedOut_81 : decode cX3_resolvedOut 81 = .ok (.getfield 85, 3) := dk_180 0 85 (dk_at dksX3_resolvedOut_3 10 rfl rfl)
theorem dX3_resolvedOut_84 : decode cX3_resolvedOut 84 = .ok (.aload_n 0, 1) := dk_42 (dk_at dksX3_resolvedOut_3 13 rfl rfl)
theorem dX3_resolvedOut_85 : decode cX3_resolvedOut 85 = .ok (.getfield 94, 3) := dk_180 0 94 (dk_at dksX3_resolvedOut_3 14 rfl rfl)
theorem dX3_resolvedOut_88 : decode cX3_resolvedOut 88 = .ok (.iload_n 1, 1) := dk_27 (dk_at dksX3_resolvedOut_3 17 rfl rfl)
theorem dX3_resolvedOut_89 : decode cX3_resolvedOut 89 = .ok (.iconst 5, 1) := dk_8 (dk_at dksX3_resolvedOut_3 18 rfl rfl)
theorem dX3_resolvedOut_90 : decode cX3_resolvedOut 90 = .ok (.iadd, 1) := dk_96 (dk_at dksX3_resolvedOut_3 19 rfl rfl)
theorem dX3_resolvedOut_91 : decode cX3_resolvedOut 91 = .ok (.iaload, 1) := dk_46 (dk_at dksX3_resolvedOut_3 20 rfl rfl)
theorem dX3_resolvedOut_92 : decode cX3_resolvedOut 92 = .ok (.aload_n 0, 1) := dk_42 (dk_at dksX3_resolvedOut_3 21 rfl rfl)
theorem dX3_resolvedOut_93 : decode cX3_resolvedOut 93 = .ok (.getfield 94, 3) := dk_180 0 94 (dk_at dksX3_resolvedOut_4 0 rfl rfl)
theorem dX3_resolvedOut_96 : decode cX3_resolvedOut 96 = .ok (.iload_n 1, 1) := dk_27 (dk_at dksX3_resolvedOut_4 3 rfl rfl)
theorem dX3_resolvedOut_97 : decode cX3_resolvedOut 97 = .ok (.bipush 6, 2) := dk_16 6 (dk_at dksX3_resolvedOut_4 4 rfl rfl)
theorem dX3_resolvedOut_99 : decode cX3_resolvedOut 99 = .ok (.iadd, 1) := dk_96 (dk_at dksX3_resolvedOut_4 6 rfl rfl)
theorem dX3_resolvedOut_100 : decode cX3_resolvedOut 100 = .ok (.iaload, 1) := dk_46 (dk_at dksX3_resolvedOut_4 7 rfl rfl)
theorem dX3_resolvedOut_101 : decode cX3_resolvedOut 101 = .ok (.invokevirtual 282, 3) := dk_182 1 26 (dk_at dksX3_resolvedOut_4 8 rfl rfl)
theorem dX3_resolvedOut_104 : decode cX3_resolvedOut 104 = .ok (.iload_n 2, 1) := dk_28 (dk_at dksX3_resolvedOut_4 11 rfl rfl)
theorem dX3_resolvedOut_105 : decode cX3_resolvedOut 105 = .ok (.iconst 3, 1) := dk_6 (dk_at dksX3_resolvedOut_4 12 rfl rfl)
theorem dX3_resolvedOut_106 : decode cX3_resolvedOut 106 = .ok (.if_icmp .ne 27, 3) := dk_160 0 27 (dk_at dksX3_resolvedOut_4 13 rfl rfl)
theorem dX3_resolvedOut_109 : decode cX3_resolvedOut 109 = .ok (.aload_n 0, 1) := dk_42 (dk_at dksX3_resolvedOut_4 16 rfl rfl)
theorem dX3_resolvedOut_110 : decode cX3_resolvedOut 110 = .ok (.aload_n 0, 1) := dk_42 (dk_at dksX3_resolvedOut_4 17 rfl rfl)
theorem dX3_resolvedOut_111 : decode cX3_resolvedOut 111 = .ok (.getfield 82, 3) := dk_180 0 82 (dk_at dksX3_resolvedOut_4 18 rfl rfl)
theorem dX3_resolvedOut_114 : decode cX3_resolvedOut 114 = .ok (.aload_n 0, 1) := dk_42 (dk_at dksX3_resolvedOut_4 21 rfl rfl)
theorem dX3_resolvedOut_115 : decode cX3_resolvedOut 115 = .ok (.getfield 94, 3) := dk_180 0 94 (dk_at dksX3_resolvedOut_5 0 rfl rfl)
theorem dX3_resolvedOut_118 : decode cX3_resolvedOut 118 = .ok (.iload_n 1, 1) := dk_27 (dk_at dksX3_resolvedOut_5 3 rfl rfl)
theorem dX3_resolvedOut_119 : decode cX3_resolvedOut 119 = .ok (.iconst 3, 1) := dk_6 (dk_at dksX3_resolvedOut_5 4 rfl rfl)
theorem dX3_resolvedOut_120 : decode cX3_resolvedOut 120 = .ok (.iadd, 1) := dk_96 (dk_at dksX3_resolvedOut_5 5 rfl rfl)
theorem dX3_resolvedOut_121 : decode cX3_resolvedOut 121 = .ok (.iaload, 1) := dk_46 (dk_at dksX3_resolvedOut_5 6 rfl rfl)
theorem dX3_resolvedOut_122 : decode cX3_resolvedOut 122 = .ok (.aload_n 0, 1) := dk_42 (dk_at dksX3_resolvedOut_5 7 rfl rfl)
theorem dX3_resolvedOut_123 : decode cX3_resolvedOut 123 = .ok (.getfield 94, 3) := dk_180 0 94 (dk_at dksX3_resolvedOut_5 8 rfl rfl)
theorem dX3_resolvedOut_126 : decode cX3_resolvedOut 126 = .ok (.iload_n 1, 1) := dk_27 (dk_at dksX3_resolvedOut_5 11 rfl rfl)
theorem dX3_resolvedOut_127 : decode cX3_resolvedOut 127 = .ok (.iconst 4, 1) := dk_7 (dk_at dksX3_resolvedOut_5 12 rfl rfl)
theorem dX3_resolvedOut_128 : decode cX3_resolvedOut 128 = .ok (.iadd, 1) := dk_96 (dk_at dksX3_resolvedOut_5 13 rfl rfl)
theorem dX3_resolvedOut_129 : decode cX3_resolvedOut 129 = .ok (.iaload, 1) := dk_46 (dk_at dksX3_resolvedOut_5 14 rfl rfl)
theorem dX3_resolvedOut_130 : decode cX3_resolvedOut 130 = .ok (.invokevirtual 282, 3) := dk_182 1 26 (dk_at dksX3_resolvedOut_5 15 rfl rfl)
theorem dX3_resolvedOut_133 : decode cX3_resolvedOut 133 = .ok (.iload_n 2, 1) := dk_28 (dk_at dksX3_resolvedOut_5 18 rfl rfl)
theorem dX3_resolvedOut_134 : decode cX3_resolvedOut 134 = .ok (.iconst 4, 1) := dk_7 (dk_at dksX3_resolvedOut_5 19 rfl rfl)
theorem dX3_resolvedOut_135 : decode cX3_resolvedOut 135 = .ok (.if_icmp .ne 27, 3) := dk_160 0 27 (dk_at dksX3_resolvedOut_5 20 rfl rfl)
theorem dX3_resolvedOut_138 : decode cX3_resolvedOut 138 = .ok (.aload_n 0, 1) := dk_42 (dk_at dksX3_resolvedOut_5 23 rfl rfl)
theorem dX3_resolvedOut_139 : decode cX3_resolvedOut 139 = .ok (.aload_n 0, 1) := dk_42 (dk_at dksX3_resolvedOut_6 0 rfl rfl)
theorem dX3_resolvedOut_140 : decode cX3_resolvedOut 140 = .ok (.getfield 79, 3) := dk_180 0 79 (dk_at dksX3_resolvedOut_6 1 rfl rfl)
theorem dX3_resolvedOut_143 : decode cX3_resolvedOut 143 = .ok (.aload_n 0, 1) := dk_42 (dk_at dksX3_resolvedOut_6 4 rfl rfl)
theorem dX3_resolvedOut_144 : decode cX3_resolvedOut 144 = .ok (.getfield 94, 3) := dk_180 0 94 (dk_at dksX3_resolvedOut_6 5 rfl rfl)
theorem dX3_resolvedOut_147 : decode cX3_resolvedOut 147 = .ok (.iload_n 1, 1) := dk_27 (dk_at dksX3_resolvedOut_6 8 rfl rfl)
theorem dX3_resolvedOut_148 : decode cX3_resolvedOut 148 = .ok (.iconst 1, 1) := dk_4 (dk_at dksX3_resolvedOut_6 9 rfl rfl)
theorem dX3_resolvedOut_149 : decode cX3_resolvedOut 149 = .ok (.iadd, 1) := dk_96 (dk_at dksX3_resolvedOut_6 10 rfl rfl)
theorem dX3_resolvedOut_150 : decode cX3_resolvedOut 150 = .ok (.iaload, 1) := dk_46 (dk_at dksX3_resolvedOut_6 11 rfl rfl)
theorem dX3_resolvedOut_151 : decode cX3_resolvedOut 151 = .ok (.aload_n 0, 1) := dk_42 (dk_at dksX3_resolvedOut_6 12 rfl rfl)
theorem dX3_resolvedOut_152 : decode cX3_resolvedOut 152 = .ok (.getfield 94, 3) := dk_180 0 94 (dk_at dksX3_resolvedOut_6 13 rfl rfl)
theorem dX3_resolvedOut_155 : decode cX3_resolvedOut 155 = .ok (.iload_n 1, 1) := dk_27 (dk_at dksX3_resolvedOut_6 16 rfl rfl)
theorem dX3_resolvedOut_156 : decode cX3_resolvedOut 156 = .ok (.iconst 2, 1) := dk_5 (dk_at dksX3_resolvedOut_6 17 rfl rfl)
theorem dX3_resolvedOut_157 : decode cX3_resolvedOut 157 = .ok (.iadd, 1) := dk_96 (dk_at dksX3_resolvedOut_6 18 rfl rfl)
theorem dX3_resolvedOut_158 : decode cX3_resolvedOut 158 = .ok (.iaload, 1) := dk_46 (dk_at dksX3_resolvedOut_6 19 rfl rfl)
theorem dX3_resolvedOut_159 : decode cX3_resolvedOut 159 = .ok (.invokevirtual 282, 3) := dk_182 1 26 (dk_at dksX3_resolvedOut_6 20 rfl rfl)
theorem dX3_resolvedOut_162 : decode cX3_resolvedOut 162 = .ok (.iload_n 2, 1) := dk_28 (dk_at dksX3_resolvedOut_6 23 rfl rfl)
theorem dX3_resolvedOut_163 : decode cX3_resolvedOut 163 = .ok (.iconst (-1), 1) := dk_2 (dk_at dksX3_resolvedOut_7 0 rfl rfl)
theorem dX3_resolvedOut_164 : decode cX3_resolvedOut 164 = .ok (.if_icmp .ne 9, 3) := dk_160 0 9 (dk_at dksX3_resolvedOut_7 1 rfl rfl)
theorem dX3_resolvedOut_167 : decode cX3_resolvedOut 167 = .ok (.aload_n 0, 1) := dk_42 (dk_at dksX3_resolvedOut_7 4 rfl rfl)
theorem dX3_resolvedOut_168 : decode cX3_resolvedOut 168 = .ok (.bipush (-3), 2) := dk_16 253 (dk_at dksX3_resolvedOut_7 5 rfl rfl)
theorem dX3_resolvedOut_170 : decode cX3_resolvedOut 170 = .ok (.invokevirtual 279, 3) := dk_182 1 23 (dk_at dksX3_resolvedOut_7 7 rfl rfl)
theorem dX3_resolvedOut_173 : decode cX3_resolvedOut 173 = .ok (.return_, 1) := dk_177 (dk_at dksX3_resolvedOut_7 10 rfl rfl)
abbrev cX3_mark : ByteArray := prog_22_method_56_code
def yX3_mark : MethodName := ⟨RX3, "mark", "(I)V"⟩
def dkwX3_mark_0 : List UInt8 := [42, 180, 0, 39, 42, 180, 0, 158, 27, 79, 42, 89, 180, 0, 158, 4, 96, 181, 0, 158, 177]
abbrev dktX3_mark_0 : List UInt8 := dkwX3_mark_0 ++ []
theorem dksX3_mark_0 : cX3_mark.data.toList.drop 0 = dktX3_mark_0 := by decide +kernel
theorem dX3_mark_0 : decode cX3_mark 0 = .ok (.aload_n 0, 1) := dk_42 (dk_at dksX3_mark_0 0 rfl rfl)
theorem dX3_mark_1 : decode cX3_mark 1 = .ok (.getfield 39, 3) := dk_180 0 39 (dk_at dksX3_mark_0 1 rfl rfl)
theorem dX3_mark_4 : decode cX3_mark 4 = .ok (.aload_n 0, 1) := dk_42 (dk_at dksX3_mark_0 4 rfl rfl)
theorem dX3_mark_5 : decode cX3_mark 5 = .ok (.getfield 158, 3) := dk_180 0 158 (dk_at dksX3_mark_0 5 rfl rfl)
theorem dX3_mark_8 : decode cX3_mark 8 = .ok (.iload_n 1, 1) := dk_27 (dk_at dksX3_mark_0 8 rfl rfl)
theorem dX3_mark_9 : decode cX3_mark 9 = .ok (.iastore, 1) := dk_79 (dk_at dksX3_mark_0 9 rfl rfl)
theorem dX3_mark_10 : decode cX3_mark 10 = .ok (.aload_n 0, 1) := dk_42 (dk_at dksX3_mark_0 10 rfl rfl)
theorem dX3_mark_11 : decode cX3_mark 11 = .ok (.dup, 1) := dk_89 (dk_at dksX3_mark_0 11 rfl rfl)
theorem dX3_mark_12 : decode cX3_mark 12 = .ok (.getfield 158, 3) := dk_180 0 158 (dk_at dksX3_mark_0 12 rfl rfl)
theorem dX3_mark_15 : decode cX3_mark 15 = .ok (.iconst 1, 1) := dk_4 (dk_at dksX3_mark_0 15 rfl rfl)
theorem dX3_mark_16 : decode cX3_mark 16 = .ok (.iadd, 1) := dk_96 (dk_at dksX3_mark_0 16 rfl rfl)
theorem dX3_mark_17 : decode cX3_mark 17 = .ok (.putfield 158, 3) := dk_181 0 158 (dk_at dksX3_mark_0 17 rfl rfl)
theorem dX3_mark_20 : decode cX3_mark 20 = .ok (.return_, 1) := dk_177 (dk_at dksX3_mark_0 20 rfl rfl)
abbrev cX3_goesOut : ByteArray := prog_22_method_55_code
def yX3_goesOut : MethodName := ⟨RX3, "goesOut", "([III)V"⟩
def dkwX3_goesOut_1 : List UInt8 := [180, 0, 158, 4, 96, 181, 0, 158, 132, 4, 1, 167, 255, 224, 177]
abbrev dktX3_goesOut_1 : List UInt8 := dkwX3_goesOut_1 ++ []
def dkwX3_goesOut_0 : List UInt8 := [28, 54, 4, 21, 4, 29, 162, 0, 32, 42, 180, 0, 39, 42, 180, 0, 158, 43, 21, 4, 46, 79, 42, 89]
abbrev dktX3_goesOut_0 : List UInt8 := dkwX3_goesOut_0 ++ dktX3_goesOut_1
theorem dksX3_goesOut_0 : cX3_goesOut.data.toList.drop 0 = dktX3_goesOut_0 := by decide +kernel
theorem dksX3_goesOut_1 : cX3_goesOut.data.toList.drop 24 = dktX3_goesOut_1 := dk_seg dksX3_goesOut_0 24 rfl rfl
theorem dX3_goesOut_0 : decode cX3_goesOut 0 = .ok (.iload_n 2, 1) := dk_28 (dk_at dksX3_goesOut_0 0 rfl rfl)
theorem dX3_goesOut_1 : decode cX3_goesOut 1 = .ok (.istore 4, 2) := dk_54 4 (dk_at dksX3_goesOut_0 1 rfl rfl)
theorem dX3_goesOut_3 : decode cX3_goesOut 3 = .ok (.iload 4, 2) := dk_21 4 (dk_at dksX3_goesOut_0 3 rfl rfl)
theorem dX3_goesOut_5 : decode cX3_goesOut 5 = .ok (.iload_n 3, 1) := dk_29 (dk_at dksX3_goesOut_0 5 rfl rfl)
theorem dX3_goesOut_6 : decode cX3_goesOut 6 = .ok (.if_icmp .ge 32, 3) := dk_162 0 32 (dk_at dksX3_goesOut_0 6 rfl rfl)
theorem dX3_goesOut_9 : decode cX3_goesOut 9 = .ok (.aload_n 0, 1) := dk_42 (dk_at dksX3_goesOut_0 9 rfl rfl)
theorem dX3_goesOut_10 : decode cX3_goesOut 10 = .ok (.getfield 39, 3) := dk_180 0 39 (dk_at dksX3_goesOut_0 10 rfl rfl)
theorem dX3_goesOut_13 : decode cX3_goesOut 13 = .ok (.aload_n 0, 1) := dk_42 (dk_at dksX3_goesOut_0 13 rfl rfl)
theorem dX3_goesOut_14 : decode cX3_goesOut 14 = .ok (.getfield 158, 3) := dk_180 0 158 (dk_at dksX3_goesOut_0 14 rfl rfl)
theorem dX3_goesOut_17 : decode cX3_goesOut 17 = .ok (.aload_n 1, 1) := dk_43 (dk_at dksX3_goesOut_0 17 rfl rfl)
theorem dX3_goesOut_18 : decode cX3_goesOut 18 = .ok (.iload 4, 2) := dk_21 4 (dk_at dksX3_goesOut_0 18 rfl rfl)
theorem dX3_goesOut_20 : decode cX3_goesOut 20 = .ok (.iaload, 1) := dk_46 (dk_at dksX3_goesOut_0 20 rfl rfl)
theorem dX3_goesOut_21 : decode cX3_goesOut 21 = .ok (.iastore, 1) := dk_79 (dk_at dksX3_goesOut_0 21 rfl rfl)
theorem dX3_goesOut_22 : decode cX3_goesOut 22 = .ok (.aload_n 0, 1) := dk_42 (dk_at dksX3_goesOut_0 22 rfl rfl)
theorem dX3_goesOut_23 : decode cX3_goesOut 23 = .ok (.dup, 1) := dk_89 (dk_at dksX3_goesOut_0 23 rfl rfl)
theorem dX3_goesOut_24 : decode cX3_goesOut 24 = .ok (.getfield 158, 3) := dk_180 0 158 (dk_at dksX3_goesOut_1 0 rfl rfl)
theorem dX3_goesOut_27 : decode cX3_goesOut 27 = .ok (.iconst 1, 1) := dk_4 (dk_at dksX3_goesOut_1 3 rfl rfl)
theorem dX3_goesOut_28 : decode cX3_goesOut 28 = .ok (.iadd, 1) := dk_96 (dk_at dksX3_goesOut_1 4 rfl rfl)
theorem dX3_goesOut_29 : decode cX3_goesOut 29 = .ok (.putfield 158, 3) := dk_181 0 158 (dk_at dksX3_goesOut_1 5 rfl rfl)
theorem dX3_goesOut_32 : decode cX3_goesOut 32 = .ok (.iinc 4 1, 3) := dk_132 4 1 (dk_at dksX3_goesOut_1 8 rfl rfl)
theorem dX3_goesOut_35 : decode cX3_goesOut 35 = .ok (.goto (-32), 3) := dk_167 255 224 (dk_at dksX3_goesOut_1 11 rfl rfl)
theorem dX3_goesOut_38 : decode cX3_goesOut 38 = .ok (.return_, 1) := dk_177 (dk_at dksX3_goesOut_1 14 rfl rfl)
abbrev cX3_unresolved : ByteArray := prog_22_method_61_code
def yX3_unresolved : MethodName := ⟨RX3, "unresolved", "()I"⟩
def dkwX3_unresolved_0 : List UInt8 := [42, 180, 1, 8, 153, 0, 14, 42, 42, 182, 1, 34, 182, 0, 138, 167, 0, 8, 42, 4, 182, 0, 130, 172]
abbrev dktX3_unresolved_0 : List UInt8 := dkwX3_unresolved_0 ++ []
theorem dksX3_unresolved_0 : cX3_unresolved.data.toList.drop 0 = dktX3_unresolved_0 := by decide +kernel
theorem dX3_unresolved_0 : decode cX3_unresolved 0 = .ok (.aload_n 0, 1) := dk_42 (dk_at dksX3_unresolved_0 0 rfl rfl)
theorem dX3_unresolved_1 : decode cX3_unresolved 1 = .ok (.getfield 264, 3) := dk_180 1 8 (dk_at dksX3_unresolved_0 1 rfl rfl)
theorem dX3_unresolved_4 : decode cX3_unresolved 4 = .ok (.ifCond .eq 14, 3) := dk_153 0 14 (dk_at dksX3_unresolved_0 4 rfl rfl)
theorem dX3_unresolved_7 : decode cX3_unresolved 7 = .ok (.aload_n 0, 1) := dk_42 (dk_at dksX3_unresolved_0 7 rfl rfl)
theorem dX3_unresolved_8 : decode cX3_unresolved 8 = .ok (.aload_n 0, 1) := dk_42 (dk_at dksX3_unresolved_0 8 rfl rfl)
theorem dX3_unresolved_9 : decode cX3_unresolved 9 = .ok (.invokevirtual 290, 3) := dk_182 1 34 (dk_at dksX3_unresolved_0 9 rfl rfl)
theorem dX3_unresolved_12 : decode cX3_unresolved 12 = .ok (.invokevirtual 138, 3) := dk_182 0 138 (dk_at dksX3_unresolved_0 12 rfl rfl)
theorem dX3_unresolved_15 : decode cX3_unresolved 15 = .ok (.goto 8, 3) := dk_167 0 8 (dk_at dksX3_unresolved_0 15 rfl rfl)
theorem dX3_unresolved_18 : decode cX3_unresolved 18 = .ok (.aload_n 0, 1) := dk_42 (dk_at dksX3_unresolved_0 18 rfl rfl)
theorem dX3_unresolved_19 : decode cX3_unresolved 19 = .ok (.iconst 1, 1) := dk_4 (dk_at dksX3_unresolved_0 19 rfl rfl)
theorem dX3_unresolved_20 : decode cX3_unresolved 20 = .ok (.invokevirtual 130, 3) := dk_182 0 130 (dk_at dksX3_unresolved_0 20 rfl rfl)
theorem dX3_unresolved_23 : decode cX3_unresolved 23 = .ok (.ireturn, 1) := dk_172 (dk_at dksX3_unresolved_0 23 rfl rfl)
abbrev cX3_openConflicts : ByteArray := prog_22_method_60_code
def yX3_openConflicts : MethodName := ⟨RX3, "openConflicts", "()I"⟩
def dkwX3_openConflicts_1 : List UInt8 := [167, 0, 4, 3, 96, 60, 132, 2, 1, 167, 255, 227, 27, 172]
abbrev dktX3_openConflicts_1 : List UInt8 := dkwX3_openConflicts_1 ++ []
def dkwX3_openConflicts_0 : List UInt8 := [3, 60, 3, 61, 28, 42, 180, 0, 249, 162, 0, 27, 27, 42, 180, 0, 97, 28, 46, 2, 160, 0, 7, 4]
abbrev dktX3_openConflicts_0 : List UInt8 := dkwX3_openConflicts_0 ++ dktX3_openConflicts_1
theorem dksX3_openConflicts_0 : cX3_openConflicts.data.toList.drop 0 = dktX3_openConflicts_0 := by decide +kernel
theorem dksX3_openConflicts_1 : cX3_openConflicts.data.toList.drop 24 = dktX3_openConflicts_1 := dk_seg dksX3_openConflicts_0 24 rfl rfl
theorem dX3_openConflicts_0 : decode cX3_openConflicts 0 = .ok (.iconst 0, 1) := dk_3 (dk_at dksX3_openConflicts_0 0 rfl rfl)
theorem dX3_openConflicts_1 : decode cX3_openConflicts 1 = .ok (.istore_n 1, 1) := dk_60 (dk_at dksX3_openConflicts_0 1 rfl rfl)
theorem dX3_openConflicts_2 : decode cX3_openConflicts 2 = .ok (.iconst 0, 1) := dk_3 (dk_at dksX3_openConflicts_0 2 rfl rfl)
theorem dX3_openConflicts_3 : decode cX3_openConflicts 3 = .ok (.istore_n 2, 1) := dk_61 (dk_at dksX3_openConflicts_0 3 rfl rfl)
theorem dX3_openConflicts_4 : decode cX3_openConflicts 4 = .ok (.iload_n 2, 1) := dk_28 (dk_at dksX3_openConflicts_0 4 rfl rfl)
theorem dX3_openConflicts_5 : decode cX3_openConflicts 5 = .ok (.aload_n 0, 1) := dk_42 (dk_at dksX3_openConflicts_0 5 rfl rfl)
theorem dX3_openConflicts_6 : decode cX3_openConflicts 6 = .ok (.getfield 249, 3) := dk_180 0 249 (dk_at dksX3_openConflicts_0 6 rfl rfl)
theorem dX3_openConflicts_9 : decode cX3_openConflicts 9 = .ok (.if_icmp .ge 27, 3) := dk_162 0 27 (dk_at dksX3_openConflicts_0 9 rfl rfl)
theorem dX3_openConflicts_12 : decode cX3_openConflicts 12 = .ok (.iload_n 1, 1) := dk_27 (dk_at dksX3_openConflicts_0 12 rfl rfl)
theorem dX3_openConflicts_13 : decode cX3_openConflicts 13 = .ok (.aload_n 0, 1) := dk_42 (dk_at dksX3_openConflicts_0 13 rfl rfl)
theorem dX3_openConflicts_14 : decode cX3_openConflicts 14 = .ok (.getfield 97, 3) := dk_180 0 97 (dk_at dksX3_openConflicts_0 14 rfl rfl)
theorem dX3_openConflicts_17 : decode cX3_openConflicts 17 = .ok (.iload_n 2, 1) := dk_28 (dk_at dksX3_openConflicts_0 17 rfl rfl)
theorem dX3_openConflicts_18 : decode cX3_openConflicts 18 = .ok (.iaload, 1) := dk_46 (dk_at dksX3_openConflicts_0 18 rfl rfl)
theorem dX3_openConflicts_19 : decode cX3_openConflicts 19 = .ok (.iconst (-1), 1) := dk_2 (dk_at dksX3_openConflicts_0 19 rfl rfl)
theorem dX3_openConflicts_20 : decode cX3_openConflicts 20 = .ok (.if_icmp .ne 7, 3) := dk_160 0 7 (dk_at dksX3_openConflicts_0 20 rfl rfl)
theorem dX3_openConflicts_23 : decode cX3_openConflicts 23 = .ok (.iconst 1, 1) := dk_4 (dk_at dksX3_openConflicts_0 23 rfl rfl)
theorem dX3_openConflicts_24 : decode cX3_openConflicts 24 = .ok (.goto 4, 3) := dk_167 0 4 (dk_at dksX3_openConflicts_1 0 rfl rfl)
theorem dX3_openConflicts_27 : decode cX3_openConflicts 27 = .ok (.iconst 0, 1) := dk_3 (dk_at dksX3_openConflicts_1 3 rfl rfl)
theorem dX3_openConflicts_28 : decode cX3_openConflicts 28 = .ok (.iadd, 1) := dk_96 (dk_at dksX3_openConflicts_1 4 rfl rfl)
theorem dX3_openConflicts_29 : decode cX3_openConflicts 29 = .ok (.istore_n 1, 1) := dk_60 (dk_at dksX3_openConflicts_1 5 rfl rfl)
theorem dX3_openConflicts_30 : decode cX3_openConflicts 30 = .ok (.iinc 2 1, 3) := dk_132 2 1 (dk_at dksX3_openConflicts_1 6 rfl rfl)
theorem dX3_openConflicts_33 : decode cX3_openConflicts 33 = .ok (.goto (-29), 3) := dk_167 255 227 (dk_at dksX3_openConflicts_1 9 rfl rfl)
theorem dX3_openConflicts_36 : decode cX3_openConflicts 36 = .ok (.iload_n 1, 1) := dk_27 (dk_at dksX3_openConflicts_1 12 rfl rfl)
theorem dX3_openConflicts_37 : decode cX3_openConflicts 37 = .ok (.ireturn, 1) := dk_172 (dk_at dksX3_openConflicts_1 13 rfl rfl)
abbrev cX3_mergedLength : ByteArray := prog_22_method_62_code
def yX3_mergedLength : MethodName := ⟨RX3, "mergedLength", "()I"⟩
def dkwX3_mergedLength_1 : List UInt8 := [182, 0, 138, 172]
abbrev dktX3_mergedLength_1 : List UInt8 := dkwX3_mergedLength_1 ++ []
def dkwX3_mergedLength_0 : List UInt8 := [42, 180, 1, 8, 154, 0, 9, 42, 4, 182, 0, 130, 172, 42, 182, 1, 37, 42, 42, 180, 0, 158]
abbrev dktX3_mergedLength_0 : List UInt8 := dkwX3_mergedLength_0 ++ dktX3_mergedLength_1
theorem dksX3_mergedLength_0 : cX3_mergedLength.data.toList.drop 0 = dktX3_mergedLength_0 := by decide +kernel
theorem dksX3_mergedLength_1 : cX3_mergedLength.data.toList.drop 22 = dktX3_mergedLength_1 := dk_seg dksX3_mergedLength_0 22 rfl rfl
theorem dX3_mergedLength_0 : decode cX3_mergedLength 0 = .ok (.aload_n 0, 1) := dk_42 (dk_at dksX3_mergedLength_0 0 rfl rfl)
theorem dX3_mergedLength_1 : decode cX3_mergedLength 1 = .ok (.getfield 264, 3) := dk_180 1 8 (dk_at dksX3_mergedLength_0 1 rfl rfl)
theorem dX3_mergedLength_4 : decode cX3_mergedLength 4 = .ok (.ifCond .ne 9, 3) := dk_154 0 9 (dk_at dksX3_mergedLength_0 4 rfl rfl)
theorem dX3_mergedLength_7 : decode cX3_mergedLength 7 = .ok (.aload_n 0, 1) := dk_42 (dk_at dksX3_mergedLength_0 7 rfl rfl)
theorem dX3_mergedLength_8 : decode cX3_mergedLength 8 = .ok (.iconst 1, 1) := dk_4 (dk_at dksX3_mergedLength_0 8 rfl rfl)
theorem dX3_mergedLength_9 : decode cX3_mergedLength 9 = .ok (.invokevirtual 130, 3) := dk_182 0 130 (dk_at dksX3_mergedLength_0 9 rfl rfl)
theorem dX3_mergedLength_12 : decode cX3_mergedLength 12 = .ok (.ireturn, 1) := dk_172 (dk_at dksX3_mergedLength_0 12 rfl rfl)
theorem dX3_mergedLength_13 : decode cX3_mergedLength 13 = .ok (.aload_n 0, 1) := dk_42 (dk_at dksX3_mergedLength_0 13 rfl rfl)
theorem dX3_mergedLength_14 : decode cX3_mergedLength 14 = .ok (.invokevirtual 293, 3) := dk_182 1 37 (dk_at dksX3_mergedLength_0 14 rfl rfl)
theorem dX3_mergedLength_17 : decode cX3_mergedLength 17 = .ok (.aload_n 0, 1) := dk_42 (dk_at dksX3_mergedLength_0 17 rfl rfl)
theorem dX3_mergedLength_18 : decode cX3_mergedLength 18 = .ok (.aload_n 0, 1) := dk_42 (dk_at dksX3_mergedLength_0 18 rfl rfl)
theorem dX3_mergedLength_19 : decode cX3_mergedLength 19 = .ok (.getfield 158, 3) := dk_180 0 158 (dk_at dksX3_mergedLength_0 19 rfl rfl)
theorem dX3_mergedLength_22 : decode cX3_mergedLength 22 = .ok (.invokevirtual 138, 3) := dk_182 0 138 (dk_at dksX3_mergedLength_1 0 rfl rfl)
theorem dX3_mergedLength_25 : decode cX3_mergedLength 25 = .ok (.ireturn, 1) := dk_172 (dk_at dksX3_mergedLength_1 3 rfl rfl)
abbrev cX3_tellMerged : ByteArray := prog_22_method_58_code
def yX3_tellMerged : MethodName := ⟨RX3, "tellMerged", "()V"⟩
def dkwX3_tellMerged_5 : List UInt8 := [177]
abbrev dktX3_tellMerged_5 : List UInt8 := dkwX3_tellMerged_5 ++ []
def dkwX3_tellMerged_4 : List UInt8 := [180, 0, 94, 29, 6, 96, 46, 42, 180, 0, 94, 29, 7, 96, 46, 182, 1, 26, 132, 2, 1, 167, 255, 151]
abbrev dktX3_tellMerged_4 : List UInt8 := dkwX3_tellMerged_4 ++ dktX3_tellMerged_5
def dkwX3_tellMerged_3 : List UInt8 := [96, 46, 42, 180, 0, 94, 29, 16, 6, 96, 46, 182, 1, 26, 167, 0, 27, 42, 42, 180, 0, 82, 42]
abbrev dktX3_tellMerged_3 : List UInt8 := dkwX3_tellMerged_3 ++ dktX3_tellMerged_4
def dkwX3_tellMerged_2 : List UInt8 := [167, 0, 65, 42, 180, 0, 94, 29, 46, 5, 160, 0, 31, 42, 42, 180, 0, 85, 42, 180, 0, 94, 29, 8]
abbrev dktX3_tellMerged_2 : List UInt8 := dkwX3_tellMerged_2 ++ dktX3_tellMerged_3
def dkwX3_tellMerged_1 : List UInt8 := [180, 0, 94, 29, 46, 7, 160, 0, 20, 42, 29, 42, 180, 0, 97, 27, 46, 182, 1, 30, 132, 1, 1]
abbrev dktX3_tellMerged_1 : List UInt8 := dkwX3_tellMerged_1 ++ dktX3_tellMerged_2
def dkwX3_tellMerged_0 : List UInt8 := [42, 3, 181, 0, 158, 3, 60, 3, 61, 28, 42, 180, 0, 246, 162, 0, 103, 16, 7, 28, 104, 62, 42]
abbrev dktX3_tellMerged_0 : List UInt8 := dkwX3_tellMerged_0 ++ dktX3_tellMerged_1
theorem dksX3_tellMerged_0 : cX3_tellMerged.data.toList.drop 0 = dktX3_tellMerged_0 := by decide +kernel
theorem dksX3_tellMerged_1 : cX3_tellMerged.data.toList.drop 23 = dktX3_tellMerged_1 := dk_seg dksX3_tellMerged_0 23 rfl rfl
theorem dksX3_tellMerged_2 : cX3_tellMerged.data.toList.drop 46 = dktX3_tellMerged_2 := dk_seg dksX3_tellMerged_1 23 rfl rfl
theorem dksX3_tellMerged_3 : cX3_tellMerged.data.toList.drop 70 = dktX3_tellMerged_3 := dk_seg dksX3_tellMerged_2 24 rfl rfl
theorem dksX3_tellMerged_4 : cX3_tellMerged.data.toList.drop 93 = dktX3_tellMerged_4 := dk_seg dksX3_tellMerged_3 23 rfl rfl
theorem dksX3_tellMerged_5 : cX3_tellMerged.data.toList.drop 117 = dktX3_tellMerged_5 := dk_seg dksX3_tellMerged_4 24 rfl rfl
theorem dX3_tellMerged_0 : decode cX3_tellMerged 0 = .ok (.aload_n 0, 1) := dk_42 (dk_at dksX3_tellMerged_0 0 rfl rfl)
theorem dX3_tellMerged_1 : decode cX3_tellMerged 1 = .ok (.iconst 0, 1) := dk_3 (dk_at dksX3_tellMerged_0 1 rfl rfl)
theorem dX3_tellMerged_2 : decode cX3_tellMerged 2 = .ok (.putfield 158, 3) := dk_181 0 158 (dk_at dksX3_tellMerged_0 2 rfl rfl)
theorem dX3_tellMerged_5 : decode cX3_tellMerged 5 = .ok (.iconst 0, 1) := dk_3 (dk_at dksX3_tellMerged_0 5 rfl rfl)
theorem dX3_tellMerged_6 : decode cX3_tellMerged 6 = .ok (.istore_n 1, 1) := dk_60 (dk_at dksX3_tellMerged_0 6 rfl rfl)
theorem dX3_tellMerged_7 : decode cX3_tellMerged 7 = .ok (.iconst 0, 1) := dk_3 (dk_at dksX3_tellMerged_0 7 rfl rfl)
theorem dX3_tellMerged_8 : decode cX3_tellMerged 8 = .ok (.istore_n 2, 1) := dk_61 (dk_at dksX3_tellMerged_0 8 rfl rfl)
theorem dX3_tellMerged_9 : decode cX3_tellMerged 9 = .ok (.iload_n 2, 1) := dk_28 (dk_at dksX3_tellMerged_0 9 rfl rfl)
theorem dX3_tellMerged_10 : decode cX3_tellMerged 10 = .ok (.aload_n 0, 1) := dk_42 (dk_at dksX3_tellMerged_0 10 rfl rfl)
theorem dX3_tellMerged_11 : decode cX3_tellMerged 11 = .ok (.getfield 246, 3) := dk_180 0 246 (dk_at dksX3_tellMerged_0 11 rfl rfl)
theorem dX3_tellMerged_14 : decode cX3_tellMerged 14 = .ok (.if_icmp .ge 103, 3) := dk_162 0 103 (dk_at dksX3_tellMerged_0 14 rfl rfl)
theorem dX3_tellMerged_17 : decode cX3_tellMerged 17 = .ok (.bipush 7, 2) := dk_16 7 (dk_at dksX3_tellMerged_0 17 rfl rfl)
theorem dX3_tellMerged_19 : decode cX3_tellMerged 19 = .ok (.iload_n 2, 1) := dk_28 (dk_at dksX3_tellMerged_0 19 rfl rfl)
theorem dX3_tellMerged_20 : decode cX3_tellMerged 20 = .ok (.imul, 1) := dk_104 (dk_at dksX3_tellMerged_0 20 rfl rfl)
theorem dX3_tellMerged_21 : decode cX3_tellMerged 21 = .ok (.istore_n 3, 1) := dk_62 (dk_at dksX3_tellMerged_0 21 rfl rfl)
theorem dX3_tellMerged_22 : decode cX3_tellMerged 22 = .ok (.aload_n 0, 1) := dk_42 (dk_at dksX3_tellMerged_0 22 rfl rfl)
theorem dX3_tellMerged_23 : decode cX3_tellMerged 23 = .ok (.getfield 94, 3) := dk_180 0 94 (dk_at dksX3_tellMerged_1 0 rfl rfl)
theorem dX3_tellMerged_26 : decode cX3_tellMerged 26 = .ok (.iload_n 3, 1) := dk_29 (dk_at dksX3_tellMerged_1 3 rfl rfl)
theorem dX3_tellMerged_27 : decode cX3_tellMerged 27 = .ok (.iaload, 1) := dk_46 (dk_at dksX3_tellMerged_1 4 rfl rfl)
theorem dX3_tellMerged_28 : decode cX3_tellMerged 28 = .ok (.iconst 4, 1) := dk_7 (dk_at dksX3_tellMerged_1 5 rfl rfl)
theorem dX3_tellMerged_29 : decode cX3_tellMerged 29 = .ok (.if_icmp .ne 20, 3) := dk_160 0 20 (dk_at dksX3_tellMerged_1 6 rfl rfl)
theorem dX3_tellMerged_32 : decode cX3_tellMerged 32 = .ok (.aload_n 0, 1) := dk_42 (dk_at dksX3_tellMerged_1 9 rfl rfl)
theorem dX3_tellMerged_33 : decode cX3_tellMerged 33 = .ok (.iload_n 3, 1) := dk_29 (dk_at dksX3_tellMerged_1 10 rfl rfl)
theorem dX3_tellMerged_34 : decode cX3_tellMerged 34 = .ok (.aload_n 0, 1) := dk_42 (dk_at dksX3_tellMerged_1 11 rfl rfl)
theorem dX3_tellMerged_35 : decode cX3_tellMerged 35 = .ok (.getfield 97, 3) := dk_180 0 97 (dk_at dksX3_tellMerged_1 12 rfl rfl)
theorem dX3_tellMerged_38 : decode cX3_tellMerged 38 = .ok (.iload_n 1, 1) := dk_27 (dk_at dksX3_tellMerged_1 15 rfl rfl)
theorem dX3_tellMerged_39 : decode cX3_tellMerged 39 = .ok (.iaload, 1) := dk_46 (dk_at dksX3_tellMerged_1 16 rfl rfl)
theorem dX3_tellMerged_40 : decode cX3_tellMerged 40 = .ok (.invokevirtual 286, 3) := dk_182 1 30 (dk_at dksX3_tellMerged_1 17 rfl rfl)
theorem dX3_tellMerged_43 : decode cX3_tellMerged 43 = .ok (.iinc 1 1, 3) := dk_132 1 1 (dk_at dksX3_tellMerged_1 20 rfl rfl)
theorem dX3_tellMerged_46 : decode cX3_tellMerged 46 = .ok (.goto 65, 3) := dk_167 0 65 (dk_at dksX3_tellMerged_2 0 rfl rfl)
theorem dX3_tellMerged_49 : decode cX3_tellMerged 49 = .ok (.aload_n 0, 1) := dk_42 (dk_at dksX3_tellMerged_2 3 rfl rfl)
theorem dX3_tellMerged_50 : decode cX3_tellMerged 50 = .ok (.getfield 94, 3) := dk_180 0 94 (dk_at dksX3_tellMerged_2 4 rfl rfl)
theorem dX3_tellMerged_53 : decode cX3_tellMerged 53 = .ok (.iload_n 3, 1) := dk_29 (dk_at dksX3_tellMerged_2 7 rfl rfl)
theorem dX3_tellMerged_54 : decode cX3_tellMerged 54 = .ok (.iaload, 1) := dk_46 (dk_at dksX3_tellMerged_2 8 rfl rfl)
theorem dX3_tellMerged_55 : decode cX3_tellMerged 55 = .ok (.iconst 2, 1) := dk_5 (dk_at dksX3_tellMerged_2 9 rfl rfl)
theorem dX3_tellMerged_56 : decode cX3_tellMerged 56 = .ok (.if_icmp .ne 31, 3) := dk_160 0 31 (dk_at dksX3_tellMerged_2 10 rfl rfl)
theorem dX3_tellMerged_59 : decode cX3_tellMerged 59 = .ok (.aload_n 0, 1) := dk_42 (dk_at dksX3_tellMerged_2 13 rfl rfl)
theorem dX3_tellMerged_60 : decode cX3_tellMerged 60 = .ok (.aload_n 0, 1) := dk_42 (dk_at dksX3_tellMerged_2 14 rfl rfl)
theorem dX3_tellMerged_61 : decode cX3_tellMerged 61 = .ok (.getfield 85, 3) := dk_180 0 85 (dk_at dksX3_tellMerged_2 15 rfl rfl)
theorem dX3_tellMerged_64 : decode cX3_tellMerged 64 = .ok (.aload_n 0, 1) := dk_42 (dk_at dksX3_tellMerged_2 18 rfl rfl)
theorem dX3_tellMerged_65 : decode cX3_tellMerged 65 = .ok (.getfield 94, 3) := dk_180 0 94 (dk_at dksX3_tellMerged_2 19 rfl rfl)
theorem dX3_tellMerged_68 : decode cX3_tellMerged 68 = .ok (.iload_n 3, 1) := dk_29 (dk_at dksX3_tellMerged_2 22 rfl rfl)
theorem dX3_tellMerged_69 : decode cX3_tellMerged 69 = .ok (.iconst 5, 1) := dk_8 (dk_at dksX3_tellMerged_2 23 rfl rfl)
theorem dX3_tellMerged_70 : decode cX3_tellMerged 70 = .ok (.iadd, 1) := dk_96 (dk_at dksX3_tellMerged_3 0 rfl rfl)
theorem dX3_tellMerged_71 : decode cX3_tellMerged 71 = .ok (.iaload, 1) := dk_46 (dk_at dksX3_tellMerged_3 1 rfl rfl)
theorem dX3_tellMerged_72 : decode cX3_tellMerged 72 = .ok (.aload_n 0, 1) := dk_42 (dk_at dksX3_tellMerged_3 2 rfl rfl)
theorem dX3_tellMerged_73 : decode cX3_tellMerged 73 = .ok (.getfield 94, 3) := dk_180 0 94 (dk_at dksX3_tellMerged_3 3 rfl rfl)
theorem dX3_tellMerged_76 : decode cX3_tellMerged 76 = .ok (.iload_n 3, 1) := dk_29 (dk_at dksX3_tellMerged_3 6 rfl rfl)
theorem dX3_tellMerged_77 : decode cX3_tellMerged 77 = .ok (.bipush 6, 2) := dk_16 6 (dk_at dksX3_tellMerged_3 7 rfl rfl)
theorem dX3_tellMerged_79 : decode cX3_tellMerged 79 = .ok (.iadd, 1) := dk_96 (dk_at dksX3_tellMerged_3 9 rfl rfl)
theorem dX3_tellMerged_80 : decode cX3_tellMerged 80 = .ok (.iaload, 1) := dk_46 (dk_at dksX3_tellMerged_3 10 rfl rfl)
theorem dX3_tellMerged_81 : decode cX3_tellMerged 81 = .ok (.invokevirtual 282, 3) := dk_182 1 26 (dk_at dksX3_tellMerged_3 11 rfl rfl)
theorem dX3_tellMerged_84 : decode cX3_tellMerged 84 = .ok (.goto 27, 3) := dk_167 0 27 (dk_at dksX3_tellMerged_3 14 rfl rfl)
theorem dX3_tellMerged_87 : decode cX3_tellMerged 87 = .ok (.aload_n 0, 1) := dk_42 (dk_at dksX3_tellMerged_3 17 rfl rfl)
theorem dX3_tellMerged_88 : decode cX3_tellMerged 88 = .ok (.aload_n 0, 1) := dk_42 (dk_at dksX3_tellMerged_3 18 rfl rfl)
theorem dX3_tellMerged_89 : decode cX3_tellMerged 89 = .ok (.getfield 82, 3) := dk_180 0 82 (dk_at dksX3_tellMerged_3 19 rfl rfl)
theorem dX3_tellMerged_92 : decode cX3_tellMerged 92 = .ok (.aload_n 0, 1) := dk_42 (dk_at dksX3_tellMerged_3 22 rfl rfl)
theorem dX3_tellMerged_93 : decode cX3_tellMerged 93 = .ok (.getfield 94, 3) := dk_180 0 94 (dk_at dksX3_tellMerged_4 0 rfl rfl)
theorem dX3_tellMerged_96 : decode cX3_tellMerged 96 = .ok (.iload_n 3, 1) := dk_29 (dk_at dksX3_tellMerged_4 3 rfl rfl)
theorem dX3_tellMerged_97 : decode cX3_tellMerged 97 = .ok (.iconst 3, 1) := dk_6 (dk_at dksX3_tellMerged_4 4 rfl rfl)
theorem dX3_tellMerged_98 : decode cX3_tellMerged 98 = .ok (.iadd, 1) := dk_96 (dk_at dksX3_tellMerged_4 5 rfl rfl)
theorem dX3_tellMerged_99 : decode cX3_tellMerged 99 = .ok (.iaload, 1) := dk_46 (dk_at dksX3_tellMerged_4 6 rfl rfl)
theorem dX3_tellMerged_100 : decode cX3_tellMerged 100 = .ok (.aload_n 0, 1) := dk_42 (dk_at dksX3_tellMerged_4 7 rfl rfl)
theorem dX3_tellMerged_101 : decode cX3_tellMerged 101 = .ok (.getfield 94, 3) := dk_180 0 94 (dk_at dksX3_tellMerged_4 8 rfl rfl)
theorem dX3_tellMerged_104 : decode cX3_tellMerged 104 = .ok (.iload_n 3, 1) := dk_29 (dk_at dksX3_tellMerged_4 11 rfl rfl)
theorem dX3_tellMerged_105 : decode cX3_tellMerged 105 = .ok (.iconst 4, 1) := dk_7 (dk_at dksX3_tellMerged_4 12 rfl rfl)
theorem dX3_tellMerged_106 : decode cX3_tellMerged 106 = .ok (.iadd, 1) := dk_96 (dk_at dksX3_tellMerged_4 13 rfl rfl)
theorem dX3_tellMerged_107 : decode cX3_tellMerged 107 = .ok (.iaload, 1) := dk_46 (dk_at dksX3_tellMerged_4 14 rfl rfl)
theorem dX3_tellMerged_108 : decode cX3_tellMerged 108 = .ok (.invokevirtual 282, 3) := dk_182 1 26 (dk_at dksX3_tellMerged_4 15 rfl rfl)
theorem dX3_tellMerged_111 : decode cX3_tellMerged 111 = .ok (.iinc 2 1, 3) := dk_132 2 1 (dk_at dksX3_tellMerged_4 18 rfl rfl)
theorem dX3_tellMerged_114 : decode cX3_tellMerged 114 = .ok (.goto (-105), 3) := dk_167 255 151 (dk_at dksX3_tellMerged_4 21 rfl rfl)
theorem dX3_tellMerged_117 : decode cX3_tellMerged 117 = .ok (.return_, 1) := dk_177 (dk_at dksX3_tellMerged_5 0 rfl rfl)
abbrev cX3_merged : ByteArray := prog_22_method_63_code
def yX3_merged : MethodName := ⟨RX3, "merged", "(I)I"⟩
def dkwX3_merged_2 : List UInt8 := [182, 0, 130, 172]
abbrev dktX3_merged_2 : List UInt8 := dkwX3_merged_2 ++ []
def dkwX3_merged_1 : List UInt8 := [100, 184, 0, 119, 153, 0, 16, 42, 42, 180, 0, 39, 27, 46, 182, 0, 138, 167, 0, 8, 42, 5]
abbrev dktX3_merged_1 : List UInt8 := dkwX3_merged_1 ++ dktX3_merged_2
def dkwX3_merged_0 : List UInt8 := [42, 180, 1, 8, 154, 0, 9, 42, 4, 182, 0, 130, 172, 42, 182, 1, 37, 27, 3, 42, 180, 0, 158, 4]
abbrev dktX3_merged_0 : List UInt8 := dkwX3_merged_0 ++ dktX3_merged_1
theorem dksX3_merged_0 : cX3_merged.data.toList.drop 0 = dktX3_merged_0 := by decide +kernel
theorem dksX3_merged_1 : cX3_merged.data.toList.drop 24 = dktX3_merged_1 := dk_seg dksX3_merged_0 24 rfl rfl
theorem dksX3_merged_2 : cX3_merged.data.toList.drop 46 = dktX3_merged_2 := dk_seg dksX3_merged_1 22 rfl rfl
theorem dX3_merged_0 : decode cX3_merged 0 = .ok (.aload_n 0, 1) := dk_42 (dk_at dksX3_merged_0 0 rfl rfl)
theorem dX3_merged_1 : decode cX3_merged 1 = .ok (.getfield 264, 3) := dk_180 1 8 (dk_at dksX3_merged_0 1 rfl rfl)
theorem dX3_merged_4 : decode cX3_merged 4 = .ok (.ifCond .ne 9, 3) := dk_154 0 9 (dk_at dksX3_merged_0 4 rfl rfl)
theorem dX3_merged_7 : decode cX3_merged 7 = .ok (.aload_n 0, 1) := dk_42 (dk_at dksX3_merged_0 7 rfl rfl)
theorem dX3_merged_8 : decode cX3_merged 8 = .ok (.iconst 1, 1) := dk_4 (dk_at dksX3_merged_0 8 rfl rfl)
theorem dX3_merged_9 : decode cX3_merged 9 = .ok (.invokevirtual 130, 3) := dk_182 0 130 (dk_at dksX3_merged_0 9 rfl rfl)
theorem dX3_merged_12 : decode cX3_merged 12 = .ok (.ireturn, 1) := dk_172 (dk_at dksX3_merged_0 12 rfl rfl)
theorem dX3_merged_13 : decode cX3_merged 13 = .ok (.aload_n 0, 1) := dk_42 (dk_at dksX3_merged_0 13 rfl rfl)
theorem dX3_merged_14 : decode cX3_merged 14 = .ok (.invokevirtual 293, 3) := dk_182 1 37 (dk_at dksX3_merged_0 14 rfl rfl)
theorem dX3_merged_17 : decode cX3_merged 17 = .ok (.iload_n 1, 1) := dk_27 (dk_at dksX3_merged_0 17 rfl rfl)
theorem dX3_merged_18 : decode cX3_merged 18 = .ok (.iconst 0, 1) := dk_3 (dk_at dksX3_merged_0 18 rfl rfl)
theorem dX3_merged_19 : decode cX3_merged 19 = .ok (.aload_n 0, 1) := dk_42 (dk_at dksX3_merged_0 19 rfl rfl)
theorem dX3_merged_20 : decode cX3_merged 20 = .ok (.getfield 158, 3) := dk_180 0 158 (dk_at dksX3_merged_0 20 rfl rfl)
theorem dX3_merged_23 : decode cX3_merged 23 = .ok (.iconst 1, 1) := dk_4 (dk_at dksX3_merged_0 23 rfl rfl)
theorem dX3_merged_24 : decode cX3_merged 24 = .ok (.isub, 1) := dk_100 (dk_at dksX3_merged_1 0 rfl rfl)
theorem dX3_merged_25 : decode cX3_merged 25 = .ok (.invokestatic 119, 3) := dk_184 0 119 (dk_at dksX3_merged_1 1 rfl rfl)
theorem dX3_merged_28 : decode cX3_merged 28 = .ok (.ifCond .eq 16, 3) := dk_153 0 16 (dk_at dksX3_merged_1 4 rfl rfl)
theorem dX3_merged_31 : decode cX3_merged 31 = .ok (.aload_n 0, 1) := dk_42 (dk_at dksX3_merged_1 7 rfl rfl)
theorem dX3_merged_32 : decode cX3_merged 32 = .ok (.aload_n 0, 1) := dk_42 (dk_at dksX3_merged_1 8 rfl rfl)
theorem dX3_merged_33 : decode cX3_merged 33 = .ok (.getfield 39, 3) := dk_180 0 39 (dk_at dksX3_merged_1 9 rfl rfl)
theorem dX3_merged_36 : decode cX3_merged 36 = .ok (.iload_n 1, 1) := dk_27 (dk_at dksX3_merged_1 12 rfl rfl)
theorem dX3_merged_37 : decode cX3_merged 37 = .ok (.iaload, 1) := dk_46 (dk_at dksX3_merged_1 13 rfl rfl)
theorem dX3_merged_38 : decode cX3_merged 38 = .ok (.invokevirtual 138, 3) := dk_182 0 138 (dk_at dksX3_merged_1 14 rfl rfl)
theorem dX3_merged_41 : decode cX3_merged 41 = .ok (.goto 8, 3) := dk_167 0 8 (dk_at dksX3_merged_1 17 rfl rfl)
theorem dX3_merged_44 : decode cX3_merged 44 = .ok (.aload_n 0, 1) := dk_42 (dk_at dksX3_merged_1 20 rfl rfl)
theorem dX3_merged_45 : decode cX3_merged 45 = .ok (.iconst 2, 1) := dk_5 (dk_at dksX3_merged_1 21 rfl rfl)
theorem dX3_merged_46 : decode cX3_merged 46 = .ok (.invokevirtual 130, 3) := dk_182 0 130 (dk_at dksX3_merged_2 0 rfl rfl)
theorem dX3_merged_49 : decode cX3_merged 49 = .ok (.ireturn, 1) := dk_172 (dk_at dksX3_merged_2 3 rfl rfl)
abbrev cX3_accept : ByteArray := prog_22_method_64_code
def yX3_accept : MethodName := ⟨RX3, "accept", "(I)I"⟩
def dkwX3_accept_3 : List UInt8 := [180, 0, 158, 182, 0, 138, 172]
abbrev dktX3_accept_3 : List UInt8 := dkwX3_accept_3 ++ []
def dkwX3_accept_2 : List UInt8 := [182, 0, 130, 172, 42, 27, 182, 0, 134, 42, 27, 42, 180, 0, 39, 42, 180, 0, 158, 182, 0, 141, 42, 42]
abbrev dktX3_accept_2 : List UInt8 := dkwX3_accept_2 ++ dktX3_accept_3
def dkwX3_accept_1 : List UInt8 := [158, 0, 9, 42, 5, 182, 0, 130, 172, 42, 182, 1, 37, 42, 180, 0, 158, 16, 24, 164, 0, 9, 42, 6]
abbrev dktX3_accept_1 : List UInt8 := dkwX3_accept_1 ++ dktX3_accept_2
def dkwX3_accept_0 : List UInt8 := [27, 184, 0, 126, 154, 0, 9, 42, 4, 182, 0, 130, 172, 42, 180, 1, 8, 153, 0, 10, 42, 182, 1, 34]
abbrev dktX3_accept_0 : List UInt8 := dkwX3_accept_0 ++ dktX3_accept_1
theorem dksX3_accept_0 : cX3_accept.data.toList.drop 0 = dktX3_accept_0 := by decide +kernel
theorem dksX3_accept_1 : cX3_accept.data.toList.drop 24 = dktX3_accept_1 := dk_seg dksX3_accept_0 24 rfl rfl
theorem dksX3_accept_2 : cX3_accept.data.toList.drop 48 = dktX3_accept_2 := dk_seg dksX3_accept_1 24 rfl rfl
theorem dksX3_accept_3 : cX3_accept.data.toList.drop 72 = dktX3_accept_3 := dk_seg dksX3_accept_2 24 rfl rfl
theorem dX3_accept_0 : decode cX3_accept 0 = .ok (.iload_n 1, 1) := dk_27 (dk_at dksX3_accept_0 0 rfl rfl)
theorem dX3_accept_1 : decode cX3_accept 1 = .ok (.invokestatic 126, 3) := dk_184 0 126 (dk_at dksX3_accept_0 1 rfl rfl)
theorem dX3_accept_4 : decode cX3_accept 4 = .ok (.ifCond .ne 9, 3) := dk_154 0 9 (dk_at dksX3_accept_0 4 rfl rfl)
theorem dX3_accept_7 : decode cX3_accept 7 = .ok (.aload_n 0, 1) := dk_42 (dk_at dksX3_accept_0 7 rfl rfl)
theorem dX3_accept_8 : decode cX3_accept 8 = .ok (.iconst 1, 1) := dk_4 (dk_at dksX3_accept_0 8 rfl rfl)
theorem dX3_accept_9 : decode cX3_accept 9 = .ok (.invokevirtual 130, 3) := dk_182 0 130 (dk_at dksX3_accept_0 9 rfl rfl)
theorem dX3_accept_12 : decode cX3_accept 12 = .ok (.ireturn, 1) := dk_172 (dk_at dksX3_accept_0 12 rfl rfl)
theorem dX3_accept_13 : decode cX3_accept 13 = .ok (.aload_n 0, 1) := dk_42 (dk_at dksX3_accept_0 13 rfl rfl)
theorem dX3_accept_14 : decode cX3_accept 14 = .ok (.getfield 264, 3) := dk_180 1 8 (dk_at dksX3_accept_0 14 rfl rfl)
theorem dX3_accept_17 : decode cX3_accept 17 = .ok (.ifCond .eq 10, 3) := dk_153 0 10 (dk_at dksX3_accept_0 17 rfl rfl)
theorem dX3_accept_20 : decode cX3_accept 20 = .ok (.aload_n 0, 1) := dk_42 (dk_at dksX3_accept_0 20 rfl rfl)
theorem dX3_accept_21 : decode cX3_accept 21 = .ok (.invokevirtual 290, 3) := dk_182 1 34 (dk_at dksX3_accept_0 21 rfl rfl)
theorem dX3_accept_24 : decode cX3_accept 24 = .ok (.ifCond .le 9, 3) := dk_158 0 9 (dk_at dksX3_accept_1 0 rfl rfl)
theorem dX3_accept_27 : decode cX3_accept 27 = .ok (.aload_n 0, 1) := dk_42 (dk_at dksX3_accept_1 3 rfl rfl)
theorem dX3_accept_28 : decode cX3_accept 28 = .ok (.iconst 2, 1) := dk_5 (dk_at dksX3_accept_1 4 rfl rfl)
theorem dX3_accept_29 : decode cX3_accept 29 = .ok (.invokevirtual 130, 3) := dk_182 0 130 (dk_at dksX3_accept_1 5 rfl rfl)
theorem dX3_accept_32 : decode cX3_accept 32 = .ok (.ireturn, 1) := dk_172 (dk_at dksX3_accept_1 8 rfl rfl)
theorem dX3_accept_33 : decode cX3_accept 33 = .ok (.aload_n 0, 1) := dk_42 (dk_at dksX3_accept_1 9 rfl rfl)
theorem dX3_accept_34 : decode cX3_accept 34 = .ok (.invokevirtual 293, 3) := dk_182 1 37 (dk_at dksX3_accept_1 10 rfl rfl)
theorem dX3_accept_37 : decode cX3_accept 37 = .ok (.aload_n 0, 1) := dk_42 (dk_at dksX3_accept_1 13 rfl rfl)
theorem dX3_accept_38 : decode cX3_accept 38 = .ok (.getfield 158, 3) := dk_180 0 158 (dk_at dksX3_accept_1 14 rfl rfl)
theorem dX3_accept_41 : decode cX3_accept 41 = .ok (.bipush 24, 2) := dk_16 24 (dk_at dksX3_accept_1 17 rfl rfl)
theorem dX3_accept_43 : decode cX3_accept 43 = .ok (.if_icmp .le 9, 3) := dk_164 0 9 (dk_at dksX3_accept_1 19 rfl rfl)
theorem dX3_accept_46 : decode cX3_accept 46 = .ok (.aload_n 0, 1) := dk_42 (dk_at dksX3_accept_1 22 rfl rfl)
theorem dX3_accept_47 : decode cX3_accept 47 = .ok (.iconst 3, 1) := dk_6 (dk_at dksX3_accept_1 23 rfl rfl)
theorem dX3_accept_48 : decode cX3_accept 48 = .ok (.invokevirtual 130, 3) := dk_182 0 130 (dk_at dksX3_accept_2 0 rfl rfl)
theorem dX3_accept_51 : decode cX3_accept 51 = .ok (.ireturn, 1) := dk_172 (dk_at dksX3_accept_2 3 rfl rfl)
theorem dX3_accept_52 : decode cX3_accept 52 = .ok (.aload_n 0, 1) := dk_42 (dk_at dksX3_accept_2 4 rfl rfl)
theorem dX3_accept_53 : decode cX3_accept 53 = .ok (.iload_n 1, 1) := dk_27 (dk_at dksX3_accept_2 5 rfl rfl)
theorem dX3_accept_54 : decode cX3_accept 54 = .ok (.invokevirtual 134, 3) := dk_182 0 134 (dk_at dksX3_accept_2 6 rfl rfl)
theorem dX3_accept_57 : decode cX3_accept 57 = .ok (.aload_n 0, 1) := dk_42 (dk_at dksX3_accept_2 9 rfl rfl)
theorem dX3_accept_58 : decode cX3_accept 58 = .ok (.iload_n 1, 1) := dk_27 (dk_at dksX3_accept_2 10 rfl rfl)
theorem dX3_accept_59 : decode cX3_accept 59 = .ok (.aload_n 0, 1) := dk_42 (dk_at dksX3_accept_2 11 rfl rfl)
theorem dX3_accept_60 : decode cX3_accept 60 = .ok (.getfield 39, 3) := dk_180 0 39 (dk_at dksX3_accept_2 12 rfl rfl)
theorem dX3_accept_63 : decode cX3_accept 63 = .ok (.aload_n 0, 1) := dk_42 (dk_at dksX3_accept_2 15 rfl rfl)
theorem dX3_accept_64 : decode cX3_accept 64 = .ok (.getfield 158, 3) := dk_180 0 158 (dk_at dksX3_accept_2 16 rfl rfl)
theorem dX3_accept_67 : decode cX3_accept 67 = .ok (.invokevirtual 141, 3) := dk_182 0 141 (dk_at dksX3_accept_2 19 rfl rfl)
theorem dX3_accept_70 : decode cX3_accept 70 = .ok (.aload_n 0, 1) := dk_42 (dk_at dksX3_accept_2 22 rfl rfl)
theorem dX3_accept_71 : decode cX3_accept 71 = .ok (.aload_n 0, 1) := dk_42 (dk_at dksX3_accept_2 23 rfl rfl)
theorem dX3_accept_72 : decode cX3_accept 72 = .ok (.getfield 158, 3) := dk_180 0 158 (dk_at dksX3_accept_3 0 rfl rfl)
theorem dX3_accept_75 : decode cX3_accept 75 = .ok (.invokevirtual 138, 3) := dk_182 0 138 (dk_at dksX3_accept_3 3 rfl rfl)
theorem dX3_accept_78 : decode cX3_accept 78 = .ok (.ireturn, 1) := dk_172 (dk_at dksX3_accept_3 6 rfl rfl)
abbrev cX3_makePatch : ByteArray := prog_22_method_66_code
def yX3_makePatch : MethodName := ⟨RX3, "makePatch", "(I)I"⟩
def dkwX3_makePatch_13 : List UInt8 := [180, 1, 46, 4, 96, 181, 1, 46, 29, 4, 96, 61, 167, 255, 21, 42, 42, 180, 1, 46, 182, 0, 138, 172]
abbrev dktX3_makePatch_13 : List UInt8 := dkwX3_makePatch_13 ++ []
def dkwX3_makePatch_12 : List UInt8 := [180, 0, 100, 21, 6, 7, 96, 21, 4, 79, 42, 180, 0, 100, 21, 6, 8, 96, 21, 5, 79, 42, 89]
abbrev dktX3_makePatch_12 : List UInt8 := dkwX3_makePatch_12 ++ dktX3_makePatch_13
def dkwX3_makePatch_11 : List UInt8 := [180, 0, 69, 7, 29, 104, 6, 96, 46, 21, 5, 96, 42, 180, 0, 100, 21, 6, 5, 96, 46, 100, 79, 42]
abbrev dktX3_makePatch_11 : List UInt8 := dkwX3_makePatch_11 ++ dktX3_makePatch_12
def dkwX3_makePatch_10 : List UInt8 := [180, 0, 69, 7, 28, 104, 5, 96, 46, 21, 4, 100, 79, 42, 180, 0, 100, 21, 6, 6, 96, 42]
abbrev dktX3_makePatch_10 : List UInt8 := dkwX3_makePatch_10 ++ dktX3_makePatch_11
def dkwX3_makePatch_9 : List UInt8 := [96, 46, 21, 5, 96, 42, 180, 0, 100, 21, 6, 46, 100, 79, 42, 180, 0, 100, 21, 6, 5, 96, 42]
abbrev dktX3_makePatch_9 : List UInt8 := dkwX3_makePatch_9 ++ dktX3_makePatch_10
def dkwX3_makePatch_8 : List UInt8 := [7, 28, 104, 46, 21, 4, 100, 79, 42, 180, 0, 100, 21, 6, 4, 96, 42, 180, 0, 69, 7, 29, 104, 4]
abbrev dktX3_makePatch_8 : List UInt8 := dkwX3_makePatch_8 ++ dktX3_makePatch_9
def dkwX3_makePatch_7 : List UInt8 := [184, 1, 49, 54, 5, 16, 6, 42, 180, 1, 46, 104, 54, 6, 42, 180, 0, 100, 21, 6, 42, 180, 0, 69]
abbrev dktX3_makePatch_7 : List UInt8 := dkwX3_makePatch_7 ++ dktX3_makePatch_8
def dkwX3_makePatch_6 : List UInt8 := [46, 184, 1, 49, 54, 4, 27, 42, 180, 0, 214, 42, 180, 0, 69, 7, 29, 104, 4, 96, 46, 100]
abbrev dktX3_makePatch_6 : List UInt8 := dkwX3_makePatch_6 ++ dktX3_makePatch_7
def dkwX3_makePatch_5 : List UInt8 := [4, 96, 46, 100, 5, 27, 104, 163, 0, 9, 132, 3, 1, 167, 255, 216, 27, 42, 180, 0, 69, 7, 28, 104]
abbrev dktX3_makePatch_5 : List UInt8 := dkwX3_makePatch_5 ++ dktX3_makePatch_6
def dkwX3_makePatch_4 : List UInt8 := [42, 180, 0, 211, 162, 0, 36, 42, 180, 0, 69, 7, 29, 104, 7, 96, 46, 42, 180, 0, 69, 7, 29, 104]
abbrev dktX3_makePatch_4 : List UInt8 := dkwX3_makePatch_4 ++ dktX3_makePatch_5
def dkwX3_makePatch_3 : List UInt8 := [28, 46, 79, 132, 2, 1, 167, 255, 223, 3, 61, 28, 42, 180, 0, 211, 162, 0, 233, 28, 62, 29, 4, 96]
abbrev dktX3_makePatch_3 : List UInt8 := dkwX3_makePatch_3 ++ dktX3_makePatch_4
def dkwX3_makePatch_2 : List UInt8 := [162, 0, 33, 42, 180, 0, 103, 28, 42, 180, 0, 57, 28, 46, 79, 42, 180, 0, 106, 28, 42, 180, 0, 60]
abbrev dktX3_makePatch_2 : List UInt8 := dkwX3_makePatch_2 ++ dktX3_makePatch_3
def dkwX3_makePatch_1 : List UInt8 := [182, 0, 130, 172, 42, 4, 181, 1, 40, 42, 3, 181, 1, 43, 42, 3, 181, 1, 46, 3, 61, 28, 16, 24]
abbrev dktX3_makePatch_1 : List UInt8 := dkwX3_makePatch_1 ++ dktX3_makePatch_2
def dkwX3_makePatch_0 : List UInt8 := [27, 3, 6, 184, 0, 119, 154, 0, 9, 42, 4, 182, 0, 130, 172, 42, 180, 0, 220, 154, 0, 9, 42, 5]
abbrev dktX3_makePatch_0 : List UInt8 := dkwX3_makePatch_0 ++ dktX3_makePatch_1
theorem dksX3_makePatch_0 : cX3_makePatch.data.toList.drop 0 = dktX3_makePatch_0 := by decide +kernel
theorem dksX3_makePatch_1 : cX3_makePatch.data.toList.drop 24 = dktX3_makePatch_1 := dk_seg dksX3_makePatch_0 24 rfl rfl
theorem dksX3_makePatch_2 : cX3_makePatch.data.toList.drop 48 = dktX3_makePatch_2 := dk_seg dksX3_makePatch_1 24 rfl rfl
theorem dksX3_makePatch_3 : cX3_makePatch.data.toList.drop 72 = dktX3_makePatch_3 := dk_seg dksX3_makePatch_2 24 rfl rfl
theorem dksX3_makePatch_4 : cX3_makePatch.data.toList.drop 96 = dktX3_makePatch_4 := dk_seg dksX3_makePatch_3 24 rfl rfl
theorem dksX3_makePatch_5 : cX3_makePatch.data.toList.drop 120 = dktX3_makePatch_5 := dk_seg dksX3_makePatch_4 24 rfl rfl
theorem dksX3_makePatch_6 : cX3_makePatch.data.toList.drop 144 = dktX3_makePatch_6 := dk_seg dksX3_makePatch_5 24 rfl rfl
theorem dksX3_makePatch_7 : cX3_makePatch.data.toList.drop 166 = dktX3_makePatch_7 := dk_seg dksX3_makePatch_6 22 rfl rfl
theorem dksX3_makePatch_8 : cX3_makePatch.data.toList.drop 190 = dktX3_makePatch_8 := dk_seg dksX3_makePatch_7 24 rfl rfl
theorem dksX3_makePatch_9 : cX3_makePatch.data.toList.drop 214 = dktX3_makePatch_9 := dk_seg dksX3_makePatch_8 24 rfl rfl
theorem dksX3_makePatch_10 : cX3_makePatch.data.toList.drop 237 = dktX3_makePatch_10 := dk_seg dksX3_makePatch_9 23 rfl rfl
theorem dksX3_makePatch_11 : cX3_makePatch.data.toList.drop 259 = dktX3_makePatch_11 := dk_seg dksX3_makePatch_10 22 rfl rfl
theorem dksX3_makePatch_12 : cX3_makePatch.data.toList.drop 283 = dktX3_makePatch_12 := dk_seg dksX3_makePatch_11 24 rfl rfl
theorem dksX3_makePatch_13 : cX3_makePatch.data.toList.drop 306 = dktX3_makePatch_13 := dk_seg dksX3_makePatch_12 23 rfl rfl
theorem dX3_makePatch_0 : decode cX3_makePatch 0 = .ok (.iload_n 1, 1) := dk_27 (dk_at dksX3_makePatch_0 0 rfl rfl)
theorem dX3_makePatch_1 : decode cX3_makePatch 1 = .ok (.iconst 0, 1) := dk_3 (dk_at dksX3_makePatch_0 1 rfl rfl)
theorem dX3_makePatch_2 : decode cX3_makePatch 2 = .ok (.iconst 3, 1) := dk_6 (dk_at dksX3_makePatch_0 2 rfl rfl)
theorem dX3_makePatch_3 : decode cX3_makePatch 3 = .ok (.invokestatic 119, 3) := dk_184 0 119 (dk_at dksX3_makePatch_0 3 rfl rfl)
theorem dX3_makePatch_6 : decode cX3_makePatch 6 = .ok (.ifCond .ne 9, 3) := dk_154 0 9 (dk_at dksX3_makePatch_0 6 rfl rfl)
theorem dX3_makePatch_9 : decode cX3_makePatch 9 = .ok (.aload_n 0, 1) := dk_42 (dk_at dksX3_makePatch_0 9 rfl rfl)
theorem dX3_makePatch_10 : decode cX3_makePatch 10 = .ok (.iconst 1, 1) := dk_4 (dk_at dksX3_makePatch_0 10 rfl rfl)
theorem dX3_makePatch_11 : decode cX3_makePatch 11 = .ok (.invokevirtual 130, 3) := dk_182 0 130 (dk_at dksX3_makePatch_0 11 rfl rfl)
theorem dX3_makePatch_14 : decode cX3_makePatch 14 = .ok (.ireturn, 1) := dk_172 (dk_at dksX3_makePatch_0 14 rfl rfl)
theorem dX3_makePatch_15 : decode cX3_makePatch 15 = .ok (.aload_n 0, 1) := dk_42 (dk_at dksX3_makePatch_0 15 rfl rfl)
theorem dX3_makePatch_16 : decode cX3_makePatch 16 = .ok (.getfield 220, 3) := dk_180 0 220 (dk_at dksX3_makePatch_0 16 rfl rfl)
theorem dX3_makePatch_19 : decode cX3_makePatch 19 = .ok (.ifCond .ne 9, 3) := dk_154 0 9 (dk_at dksX3_makePatch_0 19 rfl rfl)
theorem dX3_makePatch_22 : decode cX3_makePatch 22 = .ok (.aload_n 0, 1) := dk_42 (dk_at dksX3_makePatch_0 22 rfl rfl)
theorem dX3_makePatch_23 : decode cX3_makePatch 23 = .ok (.iconst 2, 1) := dk_5 (dk_at dksX3_makePatch_0 23 rfl rfl)
theorem dX3_makePatch_24 : decode cX3_makePatch 24 = .ok (.invokevirtual 130, 3) := dk_182 0 130 (dk_at dksX3_makePatch_1 0 rfl rfl)
theorem dX3_makePatch_27 : decode cX3_makePatch 27 = .ok (.ireturn, 1) := dk_172 (dk_at dksX3_makePatch_1 3 rfl rfl)
theorem dX3_makePatch_28 : decode cX3_makePatch 28 = .ok (.aload_n 0, 1) := dk_42 (dk_at dksX3_makePatch_1 4 rfl rfl)
theorem dX3_makePatch_29 : decode cX3_makePatch 29 = .ok (.iconst 1, 1) := dk_4 (dk_at dksX3_makePatch_1 5 rfl rfl)
theorem dX3_makePatch_30 : decode cX3_makePatch 30 = .ok (.putfield 296, 3) := dk_181 1 40 (dk_at dksX3_makePatch_1 6 rfl rfl)
theorem dX3_makePatch_33 : decode cX3_makePatch 33 = .ok (.aload_n 0, 1) := dk_42 (dk_at dksX3_makePatch_1 9 rfl rfl)
theorem dX3_makePatch_34 : decode cX3_makePatch 34 = .ok (.iconst 0, 1) := dk_3 (dk_at dksX3_makePatch_1 10 rfl rfl)
theorem dX3_makePatch_35 : decode cX3_makePatch 35 = .ok (.putfield 299, 3) := dk_181 1 43 (dk_at dksX3_makePatch_1 11 rfl rfl)
theorem dX3_makePatch_38 : decode cX3_makePatch 38 = .ok (.aload_n 0, 1) := dk_42 (dk_at dksX3_makePatch_1 14 rfl rfl)
theorem dX3_makePatch_39 : decode cX3_makePatch 39 = .ok (.iconst 0, 1) := dk_3 (dk_at dksX3_makePatch_1 15 rfl rfl)
theorem dX3_makePatch_40 : decode cX3_makePatch 40 = .ok (.putfield 302, 3) := dk_181 1 46 (dk_at dksX3_makePatch_1 16 rfl rfl)
theorem dX3_makePatch_43 : decode cX3_makePatch 43 = .ok (.iconst 0, 1) := dk_3 (dk_at dksX3_makePatch_1 19 rfl rfl)
theorem dX3_makePatch_44 : decode cX3_makePatch 44 = .ok (.istore_n 2, 1) := dk_61 (dk_at dksX3_makePatch_1 20 rfl rfl)
theorem dX3_makePatch_45 : decode cX3_makePatch 45 = .ok (.iload_n 2, 1) := dk_28 (dk_at dksX3_makePatch_1 21 rfl rfl)
theorem dX3_makePatch_46 : decode cX3_makePatch 46 = .ok (.bipush 24, 2) := dk_16 24 (dk_at dksX3_makePatch_1 22 rfl rfl)
theorem dX3_makePatch_48 : decode cX3_makePatch 48 = .ok (.if_icmp .ge 33, 3) := dk_162 0 33 (dk_at dksX3_makePatch_2 0 rfl rfl)
theorem dX3_makePatch_51 : decode cX3_makePatch 51 = .ok (.aload_n 0, 1) := dk_42 (dk_at dksX3_makePatch_2 3 rfl rfl)
theorem dX3_makePatch_52 : decode cX3_makePatch 52 = .ok (.getfield 103, 3) := dk_180 0 103 (dk_at dksX3_makePatch_2 4 rfl rfl)
theorem dX3_makePatch_55 : decode cX3_makePatch 55 = .ok (.iload_n 2, 1) := dk_28 (dk_at dksX3_makePatch_2 7 rfl rfl)
theorem dX3_makePatch_56 : decode cX3_makePatch 56 = .ok (.aload_n 0, 1) := dk_42 (dk_at dksX3_makePatch_2 8 rfl rfl)
theorem dX3_makePatch_57 : decode cX3_makePatch 57 = .ok (.getfield 57, 3) := dk_180 0 57 (dk_at dksX3_makePatch_2 9 rfl rfl)
theorem dX3_makePatch_60 : decode cX3_makePatch 60 = .ok (.iload_n 2, 1) := dk_28 (dk_at dksX3_makePatch_2 12 rfl rfl)
theorem dX3_makePatch_61 : decode cX3_makePatch 61 = .ok (.iaload, 1) := dk_46 (dk_at dksX3_makePatch_2 13 rfl rfl)
theorem dX3_makePatch_62 : decode cX3_makePatch 62 = .ok (.iastore, 1) := dk_79 (dk_at dksX3_makePatch_2 14 rfl rfl)
theorem dX3_makePatch_63 : decode cX3_makePatch 63 = .ok (.aload_n 0, 1) := dk_42 (dk_at dksX3_makePatch_2 15 rfl rfl)
theorem dX3_makePatch_64 : decode cX3_makePatch 64 = .ok (.getfield 106, 3) := dk_180 0 106 (dk_at dksX3_makePatch_2 16 rfl rfl)
theorem dX3_makePatch_67 : decode cX3_makePatch 67 = .ok (.iload_n 2, 1) := dk_28 (dk_at dksX3_makePatch_2 19 rfl rfl)
theorem dX3_makePatch_68 : decode cX3_makePatch 68 = .ok (.aload_n 0, 1) := dk_42 (dk_at dksX3_makePatch_2 20 rfl rfl)
theorem dX3_makePatch_69 : decode cX3_makePatch 69 = .ok (.getfield 60, 3) := dk_180 0 60 (dk_at dksX3_makePatch_2 21 rfl rfl)
theorem dX3_makePatch_72 : decode cX3_makePatch 72 = .ok (.iload_n 2, 1) := dk_28 (dk_at dksX3_makePatch_3 0 rfl rfl)
theorem dX3_makePatch_73 : decode cX3_makePatch 73 = .ok (.iaload, 1) := dk_46 (dk_at dksX3_makePatch_3 1 rfl rfl)
theorem dX3_makePatch_74 : decode cX3_makePatch 74 = .ok (.iastore, 1) := dk_79 (dk_at dksX3_makePatch_3 2 rfl rfl)
theorem dX3_makePatch_75 : decode cX3_makePatch 75 = .ok (.iinc 2 1, 3) := dk_132 2 1 (dk_at dksX3_makePatch_3 3 rfl rfl)
theorem dX3_makePatch_78 : decode cX3_makePatch 78 = .ok (.goto (-33), 3) := dk_167 255 223 (dk_at dksX3_makePatch_3 6 rfl rfl)
theorem dX3_makePatch_81 : decode cX3_makePatch 81 = .ok (.iconst 0, 1) := dk_3 (dk_at dksX3_makePatch_3 9 rfl rfl)
theorem dX3_makePatch_82 : decode cX3_makePatch 82 = .ok (.istore_n 2, 1) := dk_61 (dk_at dksX3_makePatch_3 10 rfl rfl)
theorem dX3_makePatch_83 : decode cX3_makePatch 83 = .ok (.iload_n 2, 1) := dk_28 (dk_at dksX3_makePatch_3 11 rfl rfl)
theorem dX3_makePatch_84 : decode cX3_makePatch 84 = .ok (.aload_n 0, 1) := dk_42 (dk_at dksX3_makePatch_3 12 rfl rfl)
theorem dX3_makePatch_85 : decode cX3_makePatch 85 = .ok (.getfield 211, 3) := dk_180 0 211 (dk_at dksX3_makePatch_3 13 rfl rfl)
theorem dX3_makePatch_88 : decode cX3_makePatch 88 = .ok (.if_icmp .ge 233, 3) := dk_162 0 233 (dk_at dksX3_makePatch_3 16 rfl rfl)
theorem dX3_makePatch_91 : decode cX3_makePatch 91 = .ok (.iload_n 2, 1) := dk_28 (dk_at dksX3_makePatch_3 19 rfl rfl)
theorem dX3_makePatch_92 : decode cX3_makePatch 92 = .ok (.istore_n 3, 1) := dk_62 (dk_at dksX3_makePatch_3 20 rfl rfl)
theorem dX3_makePatch_93 : decode cX3_makePatch 93 = .ok (.iload_n 3, 1) := dk_29 (dk_at dksX3_makePatch_3 21 rfl rfl)
theorem dX3_makePatch_94 : decode cX3_makePatch 94 = .ok (.iconst 1, 1) := dk_4 (dk_at dksX3_makePatch_3 22 rfl rfl)
theorem dX3_makePatch_95 : decode cX3_makePatch 95 = .ok (.iadd, 1) := dk_96 (dk_at dksX3_makePatch_3 23 rfl rfl)
theorem dX3_makePatch_96 : decode cX3_makePatch 96 = .ok (.aload_n 0, 1) := dk_42 (dk_at dksX3_makePatch_4 0 rfl rfl)
theorem dX3_makePatch_97 : decode cX3_makePatch 97 = .ok (.getfield 211, 3) := dk_180 0 211 (dk_at dksX3_makePatch_4 1 rfl rfl)
theorem dX3_makePatch_100 : decode cX3_makePatch 100 = .ok (.if_icmp .ge 36, 3) := dk_162 0 36 (dk_at dksX3_makePatch_4 4 rfl rfl)
theorem dX3_makePatch_103 : decode cX3_makePatch 103 = .ok (.aload_n 0, 1) := dk_42 (dk_at dksX3_makePatch_4 7 rfl rfl)
theorem dX3_makePatch_104 : decode cX3_makePatch 104 = .ok (.getfield 69, 3) := dk_180 0 69 (dk_at dksX3_makePatch_4 8 rfl rfl)
theorem dX3_makePatch_107 : decode cX3_makePatch 107 = .ok (.iconst 4, 1) := dk_7 (dk_at dksX3_makePatch_4 11 rfl rfl)
theorem dX3_makePatch_108 : decode cX3_makePatch 108 = .ok (.iload_n 3, 1) := dk_29 (dk_at dksX3_makePatch_4 12 rfl rfl)
theorem dX3_makePatch_109 : decode cX3_makePatch 109 = .ok (.imul, 1) := dk_104 (dk_at dksX3_makePatch_4 13 rfl rfl)
theorem dX3_makePatch_110 : decode cX3_makePatch 110 = .ok (.iconst 4, 1) := dk_7 (dk_at dksX3_makePatch_4 14 rfl rfl)
theorem dX3_makePatch_111 : decode cX3_makePatch 111 = .ok (.iadd, 1) := dk_96 (dk_at dksX3_makePatch_4 15 rfl rfl)
theorem dX3_makePatch_112 : decode cX3_makePatch 112 = .ok (.iaload, 1) := dk_46 (dk_at dksX3_makePatch_4 16 rfl rfl)
theorem dX3_makePatch_113 : decode cX3_makePatch 113 = .ok (.aload_n 0, 1) := dk_42 (dk_at dksX3_makePatch_4 17 rfl rfl)
theorem dX3_makePatch_114 : decode cX3_makePatch 114 = .ok (.getfield 69, 3) := dk_180 0 69 (dk_at dksX3_makePatch_4 18 rfl rfl)
theorem dX3_makePatch_117 : decode cX3_makePatch 117 = .ok (.iconst 4, 1) := dk_7 (dk_at dksX3_makePatch_4 21 rfl rfl)
theorem dX3_makePatch_118 : decode cX3_makePatch 118 = .ok (.iload_n 3, 1) := dk_29 (dk_at dksX3_makePatch_4 22 rfl rfl)
theorem dX3_makePatch_119 : decode cX3_makePatch 119 = .ok (.imul, 1) := dk_104 (dk_at dksX3_makePatch_4 23 rfl rfl)
theorem dX3_makePatch_120 : decode cX3_makePatch 120 = .ok (.iconst 1, 1) := dk_4 (dk_at dksX3_makePatch_5 0 rfl rfl)
theorem dX3_makePatch_121 : decode cX3_makePatch 121 = .ok (.iadd, 1) := dk_96 (dk_at dksX3_makePatch_5 1 rfl rfl)
theorem dX3_makePatch_122 : decode cX3_makePatch 122 = .ok (.iaload, 1) := dk_46 (dk_at dksX3_makePatch_5 2 rfl rfl)
theorem dX3_makePatch_123 : decode cX3_makePatch 123 = .ok (.isub, 1) := dk_100 (dk_at dksX3_makePatch_5 3 rfl rfl)
theorem dX3_makePatch_124 : decode cX3_makePatch 124 = .ok (.iconst 2, 1) := dk_5 (dk_at dksX3_makePatch_5 4 rfl rfl)
theorem dX3_makePatch_125 : decode cX3_makePatch 125 = .ok (.iload_n 1, 1) := dk_27 (dk_at dksX3_makePatch_5 5 rfl rfl)
theorem dX3_makePatch_126 : decode cX3_makePatch 126 = .ok (.imul, 1) := dk_104 (dk_at dksX3_makePatch_5 6 rfl rfl)
theorem dX3_makePatch_127 : decode cX3_makePatch 127 = .ok (.if_icmp .gt 9, 3) := dk_163 0 9 (dk_at dksX3_makePatch_5 7 rfl rfl)
theorem dX3_makePatch_130 : decode cX3_makePatch 130 = .ok (.iinc 3 1, 3) := dk_132 3 1 (dk_at dksX3_makePatch_5 10 rfl rfl)
theorem dX3_makePatch_133 : decode cX3_makePatch 133 = .ok (.goto (-40), 3) := dk_167 255 216 (dk_at dksX3_makePatch_5 13 rfl rfl)
theorem dX3_makePatch_136 : decode cX3_makePatch 136 = .ok (.iload_n 1, 1) := dk_27 (dk_at dksX3_makePatch_5 16 rfl rfl)
theorem dX3_makePatch_137 : decode cX3_makePatch 137 = .ok (.aload_n 0, 1) := dk_42 (dk_at dksX3_makePatch_5 17 rfl rfl)
theorem dX3_makePatch_138 : decode cX3_makePatch 138 = .ok (.getfield 69, 3) := dk_180 0 69 (dk_at dksX3_makePatch_5 18 rfl rfl)
theorem dX3_makePatch_141 : decode cX3_makePatch 141 = .ok (.iconst 4, 1) := dk_7 (dk_at dksX3_makePatch_5 21 rfl rfl)
theorem dX3_makePatch_142 : decode cX3_makePatch 142 = .ok (.iload_n 2, 1) := dk_28 (dk_at dksX3_makePatch_5 22 rfl rfl)
theorem dX3_makePatch_143 : decode cX3_makePatch 143 = .ok (.imul, 1) := dk_104 (dk_at dksX3_makePatch_5 23 rfl rfl)
theorem dX3_makePatch_144 : decode cX3_makePatch 144 = .ok (.iaload, 1) := dk_46 (dk_at dksX3_makePatch_6 0 rfl rfl)
theorem dX3_makePatch_145 : decode cX3_makePatch 145 = .ok (.invokestatic 305, 3) := dk_184 1 49 (dk_at dksX3_makePatch_6 1 rfl rfl)
theorem dX3_makePatch_148 : decode cX3_makePatch 148 = .ok (.istore 4, 2) := dk_54 4 (dk_at dksX3_makePatch_6 4 rfl rfl)
theorem dX3_makePatch_150 : decode cX3_makePatch 150 = .ok (.iload_n 1, 1) := dk_27 (dk_at dksX3_makePatch_6 6 rfl rfl)
theorem dX3_makePatch_151 : decode cX3_makePatch 151 = .ok (.aload_n 0, 1) := dk_42 (dk_at dksX3_makePatch_6 7 rfl rfl)
theorem dX3_makePatch_152 : decode cX3_makePatch 152 = .ok (.getfield 214, 3) := dk_180 0 214 (dk_at dksX3_makePatch_6 8 rfl rfl)
theorem dX3_makePatch_155 : decode cX3_makePatch 155 = .ok (.aload_n 0, 1) := dk_42 (dk_at dksX3_makePatch_6 11 rfl rfl)
theorem dX3_makePatch_156 : decode cX3_makePatch 156 = .ok (.getfield 69, 3) := dk_180 0 69 (dk_at dksX3_makePatch_6 12 rfl rfl)
theorem dX3_makePatch_159 : decode cX3_makePatch 159 = .ok (.iconst 4, 1) := dk_7 (dk_at dksX3_makePatch_6 15 rfl rfl)
theorem dX3_makePatch_160 : decode cX3_makePatch 160 = .ok (.iload_n 3, 1) := dk_29 (dk_at dksX3_makePatch_6 16 rfl rfl)
theorem dX3_makePatch_161 : decode cX3_makePatch 161 = .ok (.imul, 1) := dk_104 (dk_at dksX3_makePatch_6 17 rfl rfl)
theorem dX3_makePatch_162 : decode cX3_makePatch 162 = .ok (.iconst 1, 1) := dk_4 (dk_at dksX3_makePatch_6 18 rfl rfl)
theorem dX3_makePatch_163 : decode cX3_makePatch 163 = .ok (.iadd, 1) := dk_96 (dk_at dksX3_makePatch_6 19 rfl rfl)
theorem dX3_makePatch_164 : decode cX3_makePatch 164 = .ok (.iaload, 1) := dk_46 (dk_at dksX3_makePatch_6 20 rfl rfl)
theorem dX3_makePatch_165 : decode cX3_makePatch 165 = .ok (.isub, 1) := dk_100 (dk_at dksX3_makePatch_6 21 rfl rfl)
theorem dX3_makePatch_166 : decode cX3_makePatch 166 = .ok (.invokestatic 305, 3) := dk_184 1 49 (dk_at dksX3_makePatch_7 0 rfl rfl)
theorem dX3_makePatch_169 : decode cX3_makePatch 169 = .ok (.istore 5, 2) := dk_54 5 (dk_at dksX3_makePatch_7 3 rfl rfl)
theorem dX3_makePatch_171 : decode cX3_makePatch 171 = .ok (.bipush 6, 2) := dk_16 6 (dk_at dksX3_makePatch_7 5 rfl rfl)
theorem dX3_makePatch_173 : decode cX3_makePatch 173 = .ok (.aload_n 0, 1) := dk_42 (dk_at dksX3_makePatch_7 7 rfl rfl)
theorem dX3_makePatch_174 : decode cX3_makePatch 174 = .ok (.getfield 302, 3) := dk_180 1 46 (dk_at dksX3_makePatch_7 8 rfl rfl)
theorem dX3_makePatch_177 : decode cX3_makePatch 177 = .ok (.imul, 1) := dk_104 (dk_at dksX3_makePatch_7 11 rfl rfl)
theorem dX3_makePatch_178 : decode cX3_makePatch 178 = .ok (.istore 6, 2) := dk_54 6 (dk_at dksX3_makePatch_7 12 rfl rfl)
theorem dX3_makePatch_180 : decode cX3_makePatch 180 = .ok (.aload_n 0, 1) := dk_42 (dk_at dksX3_makePatch_7 14 rfl rfl)
theorem dX3_makePatch_181 : decode cX3_makePatch 181 = .ok (.getfield 100, 3) := dk_180 0 100 (dk_at dksX3_makePatch_7 15 rfl rfl)
theorem dX3_makePatch_184 : decode cX3_makePatch 184 = .ok (.iload 6, 2) := dk_21 6 (dk_at dksX3_makePatch_7 18 rfl rfl)
theorem dX3_makePatch_186 : decode cX3_makePatch 186 = .ok (.aload_n 0, 1) := dk_42 (dk_at dksX3_makePatch_7 20 rfl rfl)
theorem dX3_makePatch_187 : decode cX3_makePatch 187 = .ok (.getfield 69, 3) := dk_180 0 69 (dk_at dksX3_makePatch_7 21 rfl rfl)
theorem dX3_makePatch_190 : decode cX3_makePatch 190 = .ok (.iconst 4, 1) := dk_7 (dk_at dksX3_makePatch_8 0 rfl rfl)
theorem dX3_makePatch_191 : decode cX3_makePatch 191 = .ok (.iload_n 2, 1) := dk_28 (dk_at dksX3_makePatch_8 1 rfl rfl)
theorem dX3_makePatch_192 : decode cX3_makePatch 192 = .ok (.imul, 1) := dk_104 (dk_at dksX3_makePatch_8 2 rfl rfl)
theorem dX3_makePatch_193 : decode cX3_makePatch 193 = .ok (.iaload, 1) := dk_46 (dk_at dksX3_makePatch_8 3 rfl rfl)
theorem dX3_makePatch_194 : decode cX3_makePatch 194 = .ok (.iload 4, 2) := dk_21 4 (dk_at dksX3_makePatch_8 4 rfl rfl)
theorem dX3_makePatch_196 : decode cX3_makePatch 196 = .ok (.isub, 1) := dk_100 (dk_at dksX3_makePatch_8 6 rfl rfl)
theorem dX3_makePatch_197 : decode cX3_makePatch 197 = .ok (.iastore, 1) := dk_79 (dk_at dksX3_makePatch_8 7 rfl rfl)
theorem dX3_makePatch_198 : decode cX3_makePatch 198 = .ok (.aload_n 0, 1) := dk_42 (dk_at dksX3_makePatch_8 8 rfl rfl)
theorem dX3_makePatch_199 : decode cX3_makePatch 199 = .ok (.getfield 100, 3) := dk_180 0 100 (dk_at dksX3_makePatch_8 9 rfl rfl)
theorem dX3_makePatch_202 : decode cX3_makePatch 202 = .ok (.iload 6, 2) := dk_21 6 (dk_at dksX3_makePatch_8 12 rfl rfl)
theorem dX3_makePatch_204 : decode cX3_makePatch 204 = .ok (.iconst 1, 1) := dk_4 (dk_at dksX3_makePatch_8 14 rfl rfl)
theorem dX3_makePatch_205 : decode cX3_makePatch 205 = .ok (.iadd, 1) := dk_96 (dk_at dksX3_makePatch_8 15 rfl rfl)
theorem dX3_makePatch_206 : decode cX3_makePatch 206 = .ok (.aload_n 0, 1) := dk_42 (dk_at dksX3_makePatch_8 16 rfl rfl)
theorem dX3_makePatch_207 : decode cX3_makePatch 207 = .ok (.getfield 69, 3) := dk_180 0 69 (dk_at dksX3_makePatch_8 17 rfl rfl)
theorem dX3_makePatch_210 : decode cX3_makePatch 210 = .ok (.iconst 4, 1) := dk_7 (dk_at dksX3_makePatch_8 20 rfl rfl)
theorem dX3_makePatch_211 : decode cX3_makePatch 211 = .ok (.iload_n 3, 1) := dk_29 (dk_at dksX3_makePatch_8 21 rfl rfl)
theorem dX3_makePatch_212 : decode cX3_makePatch 212 = .ok (.imul, 1) := dk_104 (dk_at dksX3_makePatch_8 22 rfl rfl)
theorem dX3_makePatch_213 : decode cX3_makePatch 213 = .ok (.iconst 1, 1) := dk_4 (dk_at dksX3_makePatch_8 23 rfl rfl)
theorem dX3_makePatch_214 : decode cX3_makePatch 214 = .ok (.iadd, 1) := dk_96 (dk_at dksX3_makePatch_9 0 rfl rfl)
theorem dX3_makePatch_215 : decode cX3_makePatch 215 = .ok (.iaload, 1) := dk_46 (dk_at dksX3_makePatch_9 1 rfl rfl)
theorem dX3_makePatch_216 : decode cX3_makePatch 216 = .ok (.iload 5, 2) := dk_21 5 (dk_at dksX3_makePatch_9 2 rfl rfl)
theorem dX3_makePatch_218 : decode cX3_makePatch 218 = .ok (.iadd, 1) := dk_96 (dk_at dksX3_makePatch_9 4 rfl rfl)
theorem dX3_makePatch_219 : decode cX3_makePatch 219 = .ok (.aload_n 0, 1) := dk_42 (dk_at dksX3_makePatch_9 5 rfl rfl)
theorem dX3_makePatch_220 : decode cX3_makePatch 220 = .ok (.getfield 100, 3) := dk_180 0 100 (dk_at dksX3_makePatch_9 6 rfl rfl)
theorem dX3_makePatch_223 : decode cX3_makePatch 223 = .ok (.iload 6, 2) := dk_21 6 (dk_at dksX3_makePatch_9 9 rfl rfl)
theorem dX3_makePatch_225 : decode cX3_makePatch 225 = .ok (.iaload, 1) := dk_46 (dk_at dksX3_makePatch_9 11 rfl rfl)
theorem dX3_makePatch_226 : decode cX3_makePatch 226 = .ok (.isub, 1) := dk_100 (dk_at dksX3_makePatch_9 12 rfl rfl)
theorem dX3_makePatch_227 : decode cX3_makePatch 227 = .ok (.iastore, 1) := dk_79 (dk_at dksX3_makePatch_9 13 rfl rfl)
theorem dX3_makePatch_228 : decode cX3_makePatch 228 = .ok (.aload_n 0, 1) := dk_42 (dk_at dksX3_makePatch_9 14 rfl rfl)
theorem dX3_makePatch_229 : decode cX3_makePatch 229 = .ok (.getfield 100, 3) := dk_180 0 100 (dk_at dksX3_makePatch_9 15 rfl rfl)
theorem dX3_makePatch_232 : decode cX3_makePatch 232 = .ok (.iload 6, 2) := dk_21 6 (dk_at dksX3_makePatch_9 18 rfl rfl)
theorem dX3_makePatch_234 : decode cX3_makePatch 234 = .ok (.iconst 2, 1) := dk_5 (dk_at dksX3_makePatch_9 20 rfl rfl)
theorem dX3_makePatch_235 : decode cX3_makePatch 235 = .ok (.iadd, 1) := dk_96 (dk_at dksX3_makePatch_9 21 rfl rfl)
theorem dX3_makePatch_236 : decode cX3_makePatch 236 = .ok (.aload_n 0, 1) := dk_42 (dk_at dksX3_makePatch_9 22 rfl rfl)
theorem dX3_makePatch_237 : decode cX3_makePatch 237 = .ok (.getfield 69, 3) := dk_180 0 69 (dk_at dksX3_makePatch_10 0 rfl rfl)
theorem dX3_makePatch_240 : decode cX3_makePatch 240 = .ok (.iconst 4, 1) := dk_7 (dk_at dksX3_makePatch_10 3 rfl rfl)
theorem dX3_makePatch_241 : decode cX3_makePatch 241 = .ok (.iload_n 2, 1) := dk_28 (dk_at dksX3_makePatch_10 4 rfl rfl)
theorem dX3_makePatch_242 : decode cX3_makePatch 242 = .ok (.imul, 1) := dk_104 (dk_at dksX3_makePatch_10 5 rfl rfl)
theorem dX3_makePatch_243 : decode cX3_makePatch 243 = .ok (.iconst 2, 1) := dk_5 (dk_at dksX3_makePatch_10 6 rfl rfl)
theorem dX3_makePatch_244 : decode cX3_makePatch 244 = .ok (.iadd, 1) := dk_96 (dk_at dksX3_makePatch_10 7 rfl rfl)
theorem dX3_makePatch_245 : decode cX3_makePatch 245 = .ok (.iaload, 1) := dk_46 (dk_at dksX3_makePatch_10 8 rfl rfl)
theorem dX3_makePatch_246 : decode cX3_makePatch 246 = .ok (.iload 4, 2) := dk_21 4 (dk_at dksX3_makePatch_10 9 rfl rfl)
theorem dX3_makePatch_248 : decode cX3_makePatch 248 = .ok (.isub, 1) := dk_100 (dk_at dksX3_makePatch_10 11 rfl rfl)
theorem dX3_makePatch_249 : decode cX3_makePatch 249 = .ok (.iastore, 1) := dk_79 (dk_at dksX3_makePatch_10 12 rfl rfl)
theorem dX3_makePatch_250 : decode cX3_makePatch 250 = .ok (.aload_n 0, 1) := dk_42 (dk_at dksX3_makePatch_10 13 rfl rfl)
theorem dX3_makePatch_251 : decode cX3_makePatch 251 = .ok (.getfield 100, 3) := dk_180 0 100 (dk_at dksX3_makePatch_10 14 rfl rfl)
theorem dX3_makePatch_254 : decode cX3_makePatch 254 = .ok (.iload 6, 2) := dk_21 6 (dk_at dksX3_makePatch_10 17 rfl rfl)
theorem dX3_makePatch_256 : decode cX3_makePatch 256 = .ok (.iconst 3, 1) := dk_6 (dk_at dksX3_makePatch_10 19 rfl rfl)
theorem dX3_makePatch_257 : decode cX3_makePatch 257 = .ok (.iadd, 1) := dk_96 (dk_at dksX3_makePatch_10 20 rfl rfl)
theorem dX3_makePatch_258 : decode cX3_makePatch 258 = .ok (.aload_n 0, 1) := dk_42 (dk_at dksX3_makePatch_10 21 rfl rfl)
theorem dX3_makePatch_259 : decode cX3_makePatch 259 = .ok (.getfield 69, 3) := dk_180 0 69 (dk_at dksX3_makePatch_11 0 rfl rfl)
theorem dX3_makePatch_262 : decode cX3_makePatch 262 = .ok (.iconst 4, 1) := dk_7 (dk_at dksX3_makePatch_11 3 rfl rfl)
theorem dX3_makePatch_263 : decode cX3_makePatch 263 = .ok (.iload_n 3, 1) := dk_29 (dk_at dksX3_makePatch_11 4 rfl rfl)
theorem dX3_makePatch_264 : decode cX3_makePatch 264 = .ok (.imul, 1) := dk_104 (dk_at dksX3_makePatch_11 5 rfl rfl)
theorem dX3_makePatch_265 : decode cX3_makePatch 265 = .ok (.iconst 3, 1) := dk_6 (dk_at dksX3_makePatch_11 6 rfl rfl)
theorem dX3_makePatch_266 : decode cX3_makePatch 266 = .ok (.iadd, 1) := dk_96 (dk_at dksX3_makePatch_11 7 rfl rfl)
theorem dX3_makePatch_267 : decode cX3_makePatch 267 = .ok (.iaload, 1) := dk_46 (dk_at dksX3_makePatch_11 8 rfl rfl)
theorem dX3_makePatch_268 : decode cX3_makePatch 268 = .ok (.iload 5, 2) := dk_21 5 (dk_at dksX3_makePatch_11 9 rfl rfl)
theorem dX3_makePatch_270 : decode cX3_makePatch 270 = .ok (.iadd, 1) := dk_96 (dk_at dksX3_makePatch_11 11 rfl rfl)
theorem dX3_makePatch_271 : decode cX3_makePatch 271 = .ok (.aload_n 0, 1) := dk_42 (dk_at dksX3_makePatch_11 12 rfl rfl)
theorem dX3_makePatch_272 : decode cX3_makePatch 272 = .ok (.getfield 100, 3) := dk_180 0 100 (dk_at dksX3_makePatch_11 13 rfl rfl)
theorem dX3_makePatch_275 : decode cX3_makePatch 275 = .ok (.iload 6, 2) := dk_21 6 (dk_at dksX3_makePatch_11 16 rfl rfl)
theorem dX3_makePatch_277 : decode cX3_makePatch 277 = .ok (.iconst 2, 1) := dk_5 (dk_at dksX3_makePatch_11 18 rfl rfl)
theorem dX3_makePatch_278 : decode cX3_makePatch 278 = .ok (.iadd, 1) := dk_96 (dk_at dksX3_makePatch_11 19 rfl rfl)
theorem dX3_makePatch_279 : decode cX3_makePatch 279 = .ok (.iaload, 1) := dk_46 (dk_at dksX3_makePatch_11 20 rfl rfl)
theorem dX3_makePatch_280 : decode cX3_makePatch 280 = .ok (.isub, 1) := dk_100 (dk_at dksX3_makePatch_11 21 rfl rfl)
theorem dX3_makePatch_281 : decode cX3_makePatch 281 = .ok (.iastore, 1) := dk_79 (dk_at dksX3_makePatch_11 22 rfl rfl)
theorem dX3_makePatch_282 : decode cX3_makePatch 282 = .ok (.aload_n 0, 1) := dk_42 (dk_at dksX3_makePatch_11 23 rfl rfl)
theorem dX3_makePatch_283 : decode cX3_makePatch 283 = .ok (.getfield 100, 3) := dk_180 0 100 (dk_at dksX3_makePatch_12 0 rfl rfl)
theorem dX3_makePatch_286 : decode cX3_makePatch 286 = .ok (.iload 6, 2) := dk_21 6 (dk_at dksX3_makePatch_12 3 rfl rfl)
theorem dX3_makePatch_288 : decode cX3_makePatch 288 = .ok (.iconst 4, 1) := dk_7 (dk_at dksX3_makePatch_12 5 rfl rfl)
theorem dX3_makePatch_289 : decode cX3_makePatch 289 = .ok (.iadd, 1) := dk_96 (dk_at dksX3_makePatch_12 6 rfl rfl)
theorem dX3_makePatch_290 : decode cX3_makePatch 290 = .ok (.iload 4, 2) := dk_21 4 (dk_at dksX3_makePatch_12 7 rfl rfl)
theorem dX3_makePatch_292 : decode cX3_makePatch 292 = .ok (.iastore, 1) := dk_79 (dk_at dksX3_makePatch_12 9 rfl rfl)
theorem dX3_makePatch_293 : decode cX3_makePatch 293 = .ok (.aload_n 0, 1) := dk_42 (dk_at dksX3_makePatch_12 10 rfl rfl)
theorem dX3_makePatch_294 : decode cX3_makePatch 294 = .ok (.getfield 100, 3) := dk_180 0 100 (dk_at dksX3_makePatch_12 11 rfl rfl)
theorem dX3_makePatch_297 : decode cX3_makePatch 297 = .ok (.iload 6, 2) := dk_21 6 (dk_at dksX3_makePatch_12 14 rfl rfl)
theorem dX3_makePatch_299 : decode cX3_makePatch 299 = .ok (.iconst 5, 1) := dk_8 (dk_at dksX3_makePatch_12 16 rfl rfl)
theorem dX3_makePatch_300 : decode cX3_makePatch 300 = .ok (.iadd, 1) := dk_96 (dk_at dksX3_makePatch_12 17 rfl rfl)
theorem dX3_makePatch_301 : decode cX3_makePatch 301 = .ok (.iload 5, 2) := dk_21 5 (dk_at dksX3_makePatch_12 18 rfl rfl)
theorem dX3_makePatch_303 : decode cX3_makePatch 303 = .ok (.iastore, 1) := dk_79 (dk_at dksX3_makePatch_12 20 rfl rfl)
theorem dX3_makePatch_304 : decode cX3_makePatch 304 = .ok (.aload_n 0, 1) := dk_42 (dk_at dksX3_makePatch_12 21 rfl rfl)
theorem dX3_makePatch_305 : decode cX3_makePatch 305 = .ok (.dup, 1) := dk_89 (dk_at dksX3_makePatch_12 22 rfl rfl)
theorem dX3_makePatch_306 : decode cX3_makePatch 306 = .ok (.getfield 302, 3) := dk_180 1 46 (dk_at dksX3_makePatch_13 0 rfl rfl)
theorem dX3_makePatch_309 : decode cX3_makePatch 309 = .ok (.iconst 1, 1) := dk_4 (dk_at dksX3_makePatch_13 3 rfl rfl)
theorem dX3_makePatch_310 : decode cX3_makePatch 310 = .ok (.iadd, 1) := dk_96 (dk_at dksX3_makePatch_13 4 rfl rfl)
theorem dX3_makePatch_311 : decode cX3_makePatch 311 = .ok (.putfield 302, 3) := dk_181 1 46 (dk_at dksX3_makePatch_13 5 rfl rfl)
theorem dX3_makePatch_314 : decode cX3_makePatch 314 = .ok (.iload_n 3, 1) := dk_29 (dk_at dksX3_makePatch_13 8 rfl rfl)
theorem dX3_makePatch_315 : decode cX3_makePatch 315 = .ok (.iconst 1, 1) := dk_4 (dk_at dksX3_makePatch_13 9 rfl rfl)
theorem dX3_makePatch_316 : decode cX3_makePatch 316 = .ok (.iadd, 1) := dk_96 (dk_at dksX3_makePatch_13 10 rfl rfl)
theorem dX3_makePatch_317 : decode cX3_makePatch 317 = .ok (.istore_n 2, 1) := dk_61 (dk_at dksX3_makePatch_13 11 rfl rfl)
theorem dX3_makePatch_318 : decode cX3_makePatch 318 = .ok (.goto (-235), 3) := dk_167 255 21 (dk_at dksX3_makePatch_13 12 rfl rfl)
theorem dX3_makePatch_321 : decode cX3_makePatch 321 = .ok (.aload_n 0, 1) := dk_42 (dk_at dksX3_makePatch_13 15 rfl rfl)
theorem dX3_makePatch_322 : decode cX3_makePatch 322 = .ok (.aload_n 0, 1) := dk_42 (dk_at dksX3_makePatch_13 16 rfl rfl)
theorem dX3_makePatch_323 : decode cX3_makePatch 323 = .ok (.getfield 302, 3) := dk_180 1 46 (dk_at dksX3_makePatch_13 17 rfl rfl)
theorem dX3_makePatch_326 : decode cX3_makePatch 326 = .ok (.invokevirtual 138, 3) := dk_182 0 138 (dk_at dksX3_makePatch_13 20 rfl rfl)
theorem dX3_makePatch_329 : decode cX3_makePatch 329 = .ok (.ireturn, 1) := dk_172 (dk_at dksX3_makePatch_13 23 rfl rfl)
abbrev cX3_least : ByteArray := prog_22_method_65_code
def yX3_least : MethodName := ⟨RX3, "least", "(II)I"⟩
def dkwX3_least_0 : List UInt8 := [26, 27, 162, 0, 7, 26, 167, 0, 4, 27, 172]
abbrev dktX3_least_0 : List UInt8 := dkwX3_least_0 ++ []
theorem dksX3_least_0 : cX3_least.data.toList.drop 0 = dktX3_least_0 := by decide +kernel
theorem dX3_least_0 : decode cX3_least 0 = .ok (.iload_n 0, 1) := dk_26 (dk_at dksX3_least_0 0 rfl rfl)
theorem dX3_least_1 : decode cX3_least 1 = .ok (.iload_n 1, 1) := dk_27 (dk_at dksX3_least_0 1 rfl rfl)
theorem dX3_least_2 : decode cX3_least 2 = .ok (.if_icmp .ge 7, 3) := dk_162 0 7 (dk_at dksX3_least_0 2 rfl rfl)
theorem dX3_least_5 : decode cX3_least 5 = .ok (.iload_n 0, 1) := dk_26 (dk_at dksX3_least_0 5 rfl rfl)
theorem dX3_least_6 : decode cX3_least 6 = .ok (.goto 4, 3) := dk_167 0 4 (dk_at dksX3_least_0 6 rfl rfl)
theorem dX3_least_9 : decode cX3_least 9 = .ok (.iload_n 1, 1) := dk_27 (dk_at dksX3_least_0 9 rfl rfl)
theorem dX3_least_10 : decode cX3_least 10 = .ok (.ireturn, 1) := dk_172 (dk_at dksX3_least_0 10 rfl rfl)
abbrev cX3_hunk : ByteArray := prog_22_method_67_code
def yX3_hunk : MethodName := ⟨RX3, "hunk", "(II)I"⟩
def dkwX3_hunk_2 : List UInt8 := [16, 6, 27, 104, 28, 96, 46, 182, 0, 138, 167, 0, 8, 42, 6, 182, 0, 130, 172]
abbrev dktX3_hunk_2 : List UInt8 := dkwX3_hunk_2 ++ []
def dkwX3_hunk_1 : List UInt8 := [154, 0, 9, 42, 5, 182, 0, 130, 172, 28, 3, 8, 184, 0, 119, 153, 0, 21, 42, 42, 180, 0, 100]
abbrev dktX3_hunk_1 : List UInt8 := dkwX3_hunk_1 ++ dktX3_hunk_2
def dkwX3_hunk_0 : List UInt8 := [42, 180, 1, 40, 154, 0, 9, 42, 4, 182, 0, 130, 172, 27, 3, 42, 180, 1, 46, 4, 100, 184, 0, 119]
abbrev dktX3_hunk_0 : List UInt8 := dkwX3_hunk_0 ++ dktX3_hunk_1
theorem dksX3_hunk_0 : cX3_hunk.data.toList.drop 0 = dktX3_hunk_0 := by decide +kernel
theorem dksX3_hunk_1 : cX3_hunk.data.toList.drop 24 = dktX3_hunk_1 := dk_seg dksX3_hunk_0 24 rfl rfl
theorem dksX3_hunk_2 : cX3_hunk.data.toList.drop 47 = dktX3_hunk_2 := dk_seg dksX3_hunk_1 23 rfl rfl
theorem dX3_hunk_0 : decode cX3_hunk 0 = .ok (.aload_n 0, 1) := dk_42 (dk_at dksX3_hunk_0 0 rfl rfl)
theorem dX3_hunk_1 : decode cX3_hunk 1 = .ok (.getfield 296, 3) := dk_180 1 40 (dk_at dksX3_hunk_0 1 rfl rfl)
theorem dX3_hunk_4 : decode cX3_hunk 4 = .ok (.ifCond .ne 9, 3) := dk_154 0 9 (dk_at dksX3_hunk_0 4 rfl rfl)
theorem dX3_hunk_7 : decode cX3_hunk 7 = .ok (.aload_n 0, 1) := dk_42 (dk_at dksX3_hunk_0 7 rfl rfl)
theorem dX3_hunk_8 : decode cX3_hunk 8 = .ok (.iconst 1, 1) := dk_4 (dk_at dksX3_hunk_0 8 rfl rfl)
theorem dX3_hunk_9 : decode cX3_hunk 9 = .ok (.invokevirtual 130, 3) := dk_182 0 130 (dk_at dksX3_hunk_0 9 rfl rfl)
theorem dX3_hunk_12 : decode cX3_hunk 12 = .ok (.ireturn, 1) := dk_172 (dk_at dksX3_hunk_0 12 rfl rfl)
theorem dX3_hunk_13 : decode cX3_hunk 13 = .ok (.iload_n 1, 1) := dk_27 (dk_at dksX3_hunk_0 13 rfl rfl)
theorem dX3_hunk_14 : decode cX3_hunk 14 = .ok (.iconst 0, 1) := dk_3 (dk_at dksX3_hunk_0 14 rfl rfl)
theorem dX3_hunk_15 : decode cX3_hunk 15 = .ok (.aload_n 0, 1) := dk_42 (dk_at dksX3_hunk_0 15 rfl rfl)
theorem dX3_hunk_16 : decode cX3_hunk 16 = .ok (.getfield 302, 3) := dk_180 1 46 (dk_at dksX3_hunk_0 16 rfl rfl)
theorem dX3_hunk_19 : decode cX3_hunk 19 = .ok (.iconst 1, 1) := dk_4 (dk_at dksX3_hunk_0 19 rfl rfl)
theorem dX3_hunk_20 : decode cX3_hunk 20 = .ok (.isub, 1) := dk_100 (dk_at dksX3_hunk_0 20 rfl rfl)
theorem dX3_hunk_21 : decode cX3_hunk 21 = .ok (.invokestatic 119, 3) := dk_184 0 119 (dk_at dksX3_hunk_0 21 rfl rfl)
theorem dX3_hunk_24 : decode cX3_hunk 24 = .ok (.ifCond .ne 9, 3) := dk_154 0 9 (dk_at dksX3_hunk_1 0 rfl rfl)
theorem dX3_hunk_27 : decode cX3_hunk 27 = .ok (.aload_n 0, 1) := dk_42 (dk_at dksX3_hunk_1 3 rfl rfl)
theorem dX3_hunk_28 : decode cX3_hunk 28 = .ok (.iconst 2, 1) := dk_5 (dk_at dksX3_hunk_1 4 rfl rfl)
theorem dX3_hunk_29 : decode cX3_hunk 29 = .ok (.invokevirtual 130, 3) := dk_182 0 130 (dk_at dksX3_hunk_1 5 rfl rfl)
theorem dX3_hunk_32 : decode cX3_hunk 32 = .ok (.ireturn, 1) := dk_172 (dk_at dksX3_hunk_1 8 rfl rfl)
theorem dX3_hunk_33 : decode cX3_hunk 33 = .ok (.iload_n 2, 1) := dk_28 (dk_at dksX3_hunk_1 9 rfl rfl)
theorem dX3_hunk_34 : decode cX3_hunk 34 = .ok (.iconst 0, 1) := dk_3 (dk_at dksX3_hunk_1 10 rfl rfl)
theorem dX3_hunk_35 : decode cX3_hunk 35 = .ok (.iconst 5, 1) := dk_8 (dk_at dksX3_hunk_1 11 rfl rfl)
theorem dX3_hunk_36 : decode cX3_hunk 36 = .ok (.invokestatic 119, 3) := dk_184 0 119 (dk_at dksX3_hunk_1 12 rfl rfl)
theorem dX3_hunk_39 : decode cX3_hunk 39 = .ok (.ifCond .eq 21, 3) := dk_153 0 21 (dk_at dksX3_hunk_1 15 rfl rfl)
theorem dX3_hunk_42 : decode cX3_hunk 42 = .ok (.aload_n 0, 1) := dk_42 (dk_at dksX3_hunk_1 18 rfl rfl)
theorem dX3_hunk_43 : decode cX3_hunk 43 = .ok (.aload_n 0, 1) := dk_42 (dk_at dksX3_hunk_1 19 rfl rfl)
theorem dX3_hunk_44 : decode cX3_hunk 44 = .ok (.getfield 100, 3) := dk_180 0 100 (dk_at dksX3_hunk_1 20 rfl rfl)
theorem dX3_hunk_47 : decode cX3_hunk 47 = .ok (.bipush 6, 2) := dk_16 6 (dk_at dksX3_hunk_2 0 rfl rfl)
theorem dX3_hunk_49 : decode cX3_hunk 49 = .ok (.iload_n 1, 1) := dk_27 (dk_at dksX3_hunk_2 2 rfl rfl)
theorem dX3_hunk_50 : decode cX3_hunk 50 = .ok (.imul, 1) := dk_104 (dk_at dksX3_hunk_2 3 rfl rfl)
theorem dX3_hunk_51 : decode cX3_hunk 51 = .ok (.iload_n 2, 1) := dk_28 (dk_at dksX3_hunk_2 4 rfl rfl)
theorem dX3_hunk_52 : decode cX3_hunk 52 = .ok (.iadd, 1) := dk_96 (dk_at dksX3_hunk_2 5 rfl rfl)
theorem dX3_hunk_53 : decode cX3_hunk 53 = .ok (.iaload, 1) := dk_46 (dk_at dksX3_hunk_2 6 rfl rfl)
theorem dX3_hunk_54 : decode cX3_hunk 54 = .ok (.invokevirtual 138, 3) := dk_182 0 138 (dk_at dksX3_hunk_2 7 rfl rfl)
theorem dX3_hunk_57 : decode cX3_hunk 57 = .ok (.goto 8, 3) := dk_167 0 8 (dk_at dksX3_hunk_2 10 rfl rfl)
theorem dX3_hunk_60 : decode cX3_hunk 60 = .ok (.aload_n 0, 1) := dk_42 (dk_at dksX3_hunk_2 13 rfl rfl)
theorem dX3_hunk_61 : decode cX3_hunk 61 = .ok (.iconst 3, 1) := dk_6 (dk_at dksX3_hunk_2 14 rfl rfl)
theorem dX3_hunk_62 : decode cX3_hunk 62 = .ok (.invokevirtual 130, 3) := dk_182 0 130 (dk_at dksX3_hunk_2 15 rfl rfl)
theorem dX3_hunk_65 : decode cX3_hunk 65 = .ok (.ireturn, 1) := dk_172 (dk_at dksX3_hunk_2 18 rfl rfl)
abbrev cX3_apply : ByteArray := prog_22_method_71_code
def yX3_apply : MethodName := ⟨RX3, "apply", "(IIZ)I"⟩
def dkwX3_apply_10 : List UInt8 := [172]
abbrev dktX3_apply_10 : List UInt8 := dkwX3_apply_10 ++ []
def dkwX3_apply_9 : List UInt8 := [42, 27, 182, 0, 134, 42, 27, 42, 180, 0, 39, 42, 180, 0, 158, 182, 0, 141, 42, 21, 4, 182, 0, 138]
abbrev dktX3_apply_9 : List UInt8 := dkwX3_apply_9 ++ dktX3_apply_10
def dkwX3_apply_8 : List UInt8 := [180, 0, 109, 21, 5, 42, 180, 0, 112, 21, 5, 46, 79, 132, 5, 1, 167, 255, 228, 42, 4, 181, 1, 43]
abbrev dktX3_apply_8 : List UInt8 := dkwX3_apply_8 ++ dktX3_apply_9
def dkwX3_apply_7 : List UInt8 := [164, 0, 9, 42, 6, 182, 0, 130, 172, 3, 54, 5, 21, 5, 5, 42, 180, 1, 46, 104, 162, 0, 23, 42]
abbrev dktX3_apply_7 : List UInt8 := dkwX3_apply_7 ++ dktX3_apply_8
def dkwX3_apply_6 : List UInt8 := [167, 255, 172, 42, 27, 42, 180, 1, 52, 42, 180, 0, 13, 27, 46, 182, 1, 62, 42, 180, 0, 158, 16, 24]
abbrev dktX3_apply_6 : List UInt8 := dkwX3_apply_6 ++ dktX3_apply_7
def dkwX3_apply_5 : List UInt8 := [132, 7, 1, 167, 255, 230, 21, 4, 21, 6, 153, 0, 7, 4, 167, 0, 4, 3, 96, 54, 4, 132, 5, 1]
abbrev dktX3_apply_5 : List UInt8 := dkwX3_apply_5 ++ dktX3_apply_6
def dkwX3_apply_4 : List UInt8 := [21, 7, 28, 163, 0, 26, 21, 6, 154, 0, 21, 42, 27, 21, 5, 21, 7, 29, 182, 1, 65, 54, 6]
abbrev dktX3_apply_4 : List UInt8 := dkwX3_apply_4 ++ dktX3_apply_5
def dkwX3_apply_3 : List UInt8 := [21, 5, 104, 2, 79, 42, 180, 0, 112, 5, 21, 5, 104, 4, 96, 2, 79, 3, 54, 6, 3, 54, 7]
abbrev dktX3_apply_3 : List UInt8 := dkwX3_apply_3 ++ dktX3_apply_4
def dkwX3_apply_2 : List UInt8 := [181, 0, 158, 3, 54, 4, 3, 54, 5, 21, 5, 42, 180, 1, 46, 162, 0, 81, 42, 180, 0, 112, 5]
abbrev dktX3_apply_2 : List UInt8 := dkwX3_apply_2 ++ dktX3_apply_3
def dkwX3_apply_1 : List UInt8 := [180, 1, 40, 154, 0, 9, 42, 5, 182, 0, 130, 172, 42, 3, 181, 1, 52, 42, 3, 181, 1, 55, 42, 3]
abbrev dktX3_apply_1 : List UInt8 := dkwX3_apply_1 ++ dktX3_apply_2
def dkwX3_apply_0 : List UInt8 := [27, 184, 0, 126, 153, 0, 12, 28, 3, 5, 184, 0, 119, 154, 0, 9, 42, 4, 182, 0, 130, 172, 42]
abbrev dktX3_apply_0 : List UInt8 := dkwX3_apply_0 ++ dktX3_apply_1
theorem dksX3_apply_0 : cX3_apply.data.toList.drop 0 = dktX3_apply_0 := by decide +kernel
theorem dksX3_apply_1 : cX3_apply.data.toList.drop 23 = dktX3_apply_1 := dk_seg dksX3_apply_0 23 rfl rfl
theorem dksX3_apply_2 : cX3_apply.data.toList.drop 47 = dktX3_apply_2 := dk_seg dksX3_apply_1 24 rfl rfl
theorem dksX3_apply_3 : cX3_apply.data.toList.drop 70 = dktX3_apply_3 := dk_seg dksX3_apply_2 23 rfl rfl
theorem dksX3_apply_4 : cX3_apply.data.toList.drop 93 = dktX3_apply_4 := dk_seg dksX3_apply_3 23 rfl rfl
theorem dksX3_apply_5 : cX3_apply.data.toList.drop 116 = dktX3_apply_5 := dk_seg dksX3_apply_4 23 rfl rfl
theorem dksX3_apply_6 : cX3_apply.data.toList.drop 140 = dktX3_apply_6 := dk_seg dksX3_apply_5 24 rfl rfl
theorem dksX3_apply_7 : cX3_apply.data.toList.drop 164 = dktX3_apply_7 := dk_seg dksX3_apply_6 24 rfl rfl
theorem dksX3_apply_8 : cX3_apply.data.toList.drop 188 = dktX3_apply_8 := dk_seg dksX3_apply_7 24 rfl rfl
theorem dksX3_apply_9 : cX3_apply.data.toList.drop 212 = dktX3_apply_9 := dk_seg dksX3_apply_8 24 rfl rfl
theorem dksX3_apply_10 : cX3_apply.data.toList.drop 236 = dktX3_apply_10 := dk_seg dksX3_apply_9 24 rfl rfl
theorem dX3_apply_0 : decode cX3_apply 0 = .ok (.iload_n 1, 1) := dk_27 (dk_at dksX3_apply_0 0 rfl rfl)
theorem dX3_apply_1 : decode cX3_apply 1 = .ok (.invokestatic 126, 3) := dk_184 0 126 (dk_at dksX3_apply_0 1 rfl rfl)
theorem dX3_apply_4 : decode cX3_apply 4 = .ok (.ifCond .eq 12, 3) := dk_153 0 12 (dk_at dksX3_apply_0 4 rfl rfl)
theorem dX3_apply_7 : decode cX3_apply 7 = .ok (.iload_n 2, 1) := dk_28 (dk_at dksX3_apply_0 7 rfl rfl)
theorem dX3_apply_8 : decode cX3_apply 8 = .ok (.iconst 0, 1) := dk_3 (dk_at dksX3_apply_0 8 rfl rfl)
theorem dX3_apply_9 : decode cX3_apply 9 = .ok (.iconst 2, 1) := dk_5 (dk_at dksX3_apply_0 9 rfl rfl)
theorem dX3_apply_10 : decode cX3_apply 10 = .ok (.invokestatic 119, 3) := dk_184 0 119 (dk_at dksX3_apply_0 10 rfl rfl)
theorem dX3_apply_13 : decode cX3_apply 13 = .ok (.ifCond .ne 9, 3) := dk_154 0 9 (dk_at dksX3_apply_0 13 rfl rfl)
theorem dX3_apply_16 : decode cX3_apply 16 = .ok (.aload_n 0, 1) := dk_42 (dk_at dksX3_apply_0 16 rfl rfl)
theorem dX3_apply_17 : decode cX3_apply 17 = .ok (.iconst 1, 1) := dk_4 (dk_at dksX3_apply_0 17 rfl rfl)
theorem dX3_apply_18 : decode cX3_apply 18 = .ok (.invokevirtual 130, 3) := dk_182 0 130 (dk_at dksX3_apply_0 18 rfl rfl)
theorem dX3_apply_21 : decode cX3_apply 21 = .ok (.ireturn, 1) := dk_172 (dk_at dksX3_apply_0 21 rfl rfl)
theorem dX3_apply_22 : decode cX3_apply 22 = .ok (.aload_n 0, 1) := dk_42 (dk_at dksX3_apply_0 22 rfl rfl)
theorem dX3_apply_23 : decode cX3_apply 23 = .ok (.getfield 296, 3) := dk_180 1 40 (dk_at dksX3_apply_1 0 rfl rfl)
theorem dX3_apply_26 : decode cX3_apply 26 = .ok (.ifCond .ne 9, 3) := dk_154 0 9 (dk_at dksX3_apply_1 3 rfl rfl)
theorem dX3_apply_29 : decode cX3_apply 29 = .ok (.aload_n 0, 1) := dk_42 (dk_at dksX3_apply_1 6 rfl rfl)
theorem dX3_apply_30 : decode cX3_apply 30 = .ok (.iconst 2, 1) := dk_5 (dk_at dksX3_apply_1 7 rfl rfl)
theorem dX3_apply_31 : decode cX3_apply 31 = .ok (.invokevirtual 130, 3) := dk_182 0 130 (dk_at dksX3_apply_1 8 rfl rfl)
theorem dX3_apply_34 : decode cX3_apply 34 = .ok (.ireturn, 1) := dk_172 (dk_at dksX3_apply_1 11 rfl rfl)
theorem dX3_apply_35 : decode cX3_apply 35 = .ok (.aload_n 0, 1) := dk_42 (dk_at dksX3_apply_1 12 rfl rfl)
theorem dX3_apply_36 : decode cX3_apply 36 = .ok (.iconst 0, 1) := dk_3 (dk_at dksX3_apply_1 13 rfl rfl)
theorem dX3_apply_37 : decode cX3_apply 37 = .ok (.putfield 308, 3) := dk_181 1 52 (dk_at dksX3_apply_1 14 rfl rfl)
theorem dX3_apply_40 : decode cX3_apply 40 = .ok (.aload_n 0, 1) := dk_42 (dk_at dksX3_apply_1 17 rfl rfl)
theorem dX3_apply_41 : decode cX3_apply 41 = .ok (.iconst 0, 1) := dk_3 (dk_at dksX3_apply_1 18 rfl rfl)
theorem dX3_apply_42 : decode cX3_apply 42 = .ok (.putfield 311, 3) := dk_181 1 55 (dk_at dksX3_apply_1 19 rfl rfl)
theorem dX3_apply_45 : decode cX3_apply 45 = .ok (.aload_n 0, 1) := dk_42 (dk_at dksX3_apply_1 22 rfl rfl)
theorem dX3_apply_46 : decode cX3_apply 46 = .ok (.iconst 0, 1) := dk_3 (dk_at dksX3_apply_1 23 rfl rfl)
theorem dX3_apply_47 : decode cX3_apply 47 = .ok (.putfield 158, 3) := dk_181 0 158 (dk_at dksX3_apply_2 0 rfl rfl)
theorem dX3_apply_50 : decode cX3_apply 50 = .ok (.iconst 0, 1) := dk_3 (dk_at dksX3_apply_2 3 rfl rfl)
theorem dX3_apply_51 : decode cX3_apply 51 = .ok (.istore 4, 2) := dk_54 4 (dk_at dksX3_apply_2 4 rfl rfl)
theorem dX3_apply_53 : decode cX3_apply 53 = .ok (.iconst 0, 1) := dk_3 (dk_at dksX3_apply_2 6 rfl rfl)
theorem dX3_apply_54 : decode cX3_apply 54 = .ok (.istore 5, 2) := dk_54 5 (dk_at dksX3_apply_2 7 rfl rfl)
theorem dX3_apply_56 : decode cX3_apply 56 = .ok (.iload 5, 2) := dk_21 5 (dk_at dksX3_apply_2 9 rfl rfl)
theorem dX3_apply_58 : decode cX3_apply 58 = .ok (.aload_n 0, 1) := dk_42 (dk_at dksX3_apply_2 11 rfl rfl)
theorem dX3_apply_59 : decode cX3_apply 59 = .ok (.getfield 302, 3) := dk_180 1 46 (dk_at dksX3_apply_2 12 rfl rfl)
theorem dX3_apply_62 : decode cX3_apply 62 = .ok (.if_icmp .ge 81, 3) := dk_162 0 81 (dk_at dksX3_apply_2 15 rfl rfl)
theorem dX3_apply_65 : decode cX3_apply 65 = .ok (.aload_n 0, 1) := dk_42 (dk_at dksX3_apply_2 18 rfl rfl)
theorem dX3_apply_66 : decode cX3_apply 66 = .ok (.getfield 112, 3) := dk_180 0 112 (dk_at dksX3_apply_2 19 rfl rfl)
theorem dX3_apply_69 : decode cX3_apply 69 = .ok (.iconst 2, 1) := dk_5 (dk_at dksX3_apply_2 22 rfl rfl)
theorem dX3_apply_70 : decode cX3_apply 70 = .ok (.iload 5, 2) := dk_21 5 (dk_at dksX3_apply_3 0 rfl rfl)
theorem dX3_apply_72 : decode cX3_apply 72 = .ok (.imul, 1) := dk_104 (dk_at dksX3_apply_3 2 rfl rfl)
theorem dX3_apply_73 : decode cX3_apply 73 = .ok (.iconst (-1), 1) := dk_2 (dk_at dksX3_apply_3 3 rfl rfl)
theorem dX3_apply_74 : decode cX3_apply 74 = .ok (.iastore, 1) := dk_79 (dk_at dksX3_apply_3 4 rfl rfl)
theorem dX3_apply_75 : decode cX3_apply 75 = .ok (.aload_n 0, 1) := dk_42 (dk_at dksX3_apply_3 5 rfl rfl)
theorem dX3_apply_76 : decode cX3_apply 76 = .ok (.getfield 112, 3) := dk_180 0 112 (dk_at dksX3_apply_3 6 rfl rfl)
theorem dX3_apply_79 : decode cX3_apply 79 = .ok (.iconst 2, 1) := dk_5 (dk_at dksX3_apply_3 9 rfl rfl)
theorem dX3_apply_80 : decode cX3_apply 80 = .ok (.iload 5, 2) := dk_21 5 (dk_at dksX3_apply_3 10 rfl rfl)
theorem dX3_apply_82 : decode cX3_apply 82 = .ok (.imul, 1) := dk_104 (dk_at dksX3_apply_3 12 rfl rfl)
theorem dX3_apply_83 : decode cX3_apply 83 = .ok (.iconst 1, 1) := dk_4 (dk_at dksX3_apply_3 13 rfl rfl)
theorem dX3_apply_84 : decode cX3_apply 84 = .ok (.iadd, 1) := dk_96 (dk_at dksX3_apply_3 14 rfl rfl)
theorem dX3_apply_85 : decode cX3_apply 85 = .ok (.iconst (-1), 1) := dk_2 (dk_at dksX3_apply_3 15 rfl rfl)
theorem dX3_apply_86 : decode cX3_apply 86 = .ok (.iastore, 1) := dk_79 (dk_at dksX3_apply_3 16 rfl rfl)
theorem dX3_apply_87 : decode cX3_apply 87 = .ok (.iconst 0, 1) := dk_3 (dk_at dksX3_apply_3 17 rfl rfl)
theorem dX3_apply_88 : decode cX3_apply 88 = .ok (.istore 6, 2) := dk_54 6 (dk_at dksX3_apply_3 18 rfl rfl)
theorem dX3_apply_90 : decode cX3_apply 90 = .ok (.iconst 0, 1) := dk_3 (dk_at dksX3_apply_3 20 rfl rfl)
theorem dX3_apply_91 : decode cX3_apply 91 = .ok (.istore 7, 2) := dk_54 7 (dk_at dksX3_apply_3 21 rfl rfl)
theorem dX3_apply_93 : decode cX3_apply 93 = .ok (.iload 7, 2) := dk_21 7 (dk_at dksX3_apply_4 0 rfl rfl)
theorem dX3_apply_95 : decode cX3_apply 95 = .ok (.iload_n 2, 1) := dk_28 (dk_at dksX3_apply_4 2 rfl rfl)
theorem dX3_apply_96 : decode cX3_apply 96 = .ok (.if_icmp .gt 26, 3) := dk_163 0 26 (dk_at dksX3_apply_4 3 rfl rfl)
theorem dX3_apply_99 : decode cX3_apply 99 = .ok (.iload 6, 2) := dk_21 6 (dk_at dksX3_apply_4 6 rfl rfl)
theorem dX3_apply_101 : decode cX3_apply 101 = .ok (.ifCond .ne 21, 3) := dk_154 0 21 (dk_at dksX3_apply_4 8 rfl rfl)
theorem dX3_apply_104 : decode cX3_apply 104 = .ok (.aload_n 0, 1) := dk_42 (dk_at dksX3_apply_4 11 rfl rfl)
theorem dX3_apply_105 : decode cX3_apply 105 = .ok (.iload_n 1, 1) := dk_27 (dk_at dksX3_apply_4 12 rfl rfl)
theorem dX3_apply_106 : decode cX3_apply 106 = .ok (.iload 5, 2) := dk_21 5 (dk_at dksX3_apply_4 13 rfl rfl)
theorem dX3_apply_108 : decode cX3_apply 108 = .ok (.iload 7, 2) := dk_21 7 (dk_at dksX3_apply_4 15 rfl rfl)
theorem dX3_apply_110 : decode cX3_apply 110 = .ok (.iload_n 3, 1) := dk_29 (dk_at dksX3_apply_4 17 rfl rfl)
theorem dX3_apply_111 : decode cX3_apply 111 = .ok (.invokevirtual 321, 3) := dk_182 1 65 (dk_at dksX3_apply_4 18 rfl rfl)
theorem dX3_apply_114 : decode cX3_apply 114 = .ok (.istore 6, 2) := dk_54 6 (dk_at dksX3_apply_4 21 rfl rfl)
theorem dX3_apply_116 : decode cX3_apply 116 = .ok (.iinc 7 1, 3) := dk_132 7 1 (dk_at dksX3_apply_5 0 rfl rfl)
theorem dX3_apply_119 : decode cX3_apply 119 = .ok (.goto (-26), 3) := dk_167 255 230 (dk_at dksX3_apply_5 3 rfl rfl)
theorem dX3_apply_122 : decode cX3_apply 122 = .ok (.iload 4, 2) := dk_21 4 (dk_at dksX3_apply_5 6 rfl rfl)
theorem dX3_apply_124 : decode cX3_apply 124 = .ok (.iload 6, 2) := dk_21 6 (dk_at dksX3_apply_5 8 rfl rfl)
theorem dX3_apply_126 : decode cX3_apply 126 = .ok (.ifCond .eq 7, 3) := dk_153 0 7 (dk_at dksX3_apply_5 10 rfl rfl)
theorem dX3_apply_129 : decode cX3_apply 129 = .ok (.iconst 1, 1) := dk_4 (dk_at dksX3_apply_5 13 rfl rfl)
theorem dX3_apply_130 : decode cX3_apply 130 = .ok (.goto 4, 3) := dk_167 0 4 (dk_at dksX3_apply_5 14 rfl rfl)
theorem dX3_apply_133 : decode cX3_apply 133 = .ok (.iconst 0, 1) := dk_3 (dk_at dksX3_apply_5 17 rfl rfl)
theorem dX3_apply_134 : decode cX3_apply 134 = .ok (.iadd, 1) := dk_96 (dk_at dksX3_apply_5 18 rfl rfl)
theorem dX3_apply_135 : decode cX3_apply 135 = .ok (.istore 4, 2) := dk_54 4 (dk_at dksX3_apply_5 19 rfl rfl)
theorem dX3_apply_137 : decode cX3_apply 137 = .ok (.iinc 5 1, 3) := dk_132 5 1 (dk_at dksX3_apply_5 21 rfl rfl)
theorem dX3_apply_140 : decode cX3_apply 140 = .ok (.goto (-84), 3) := dk_167 255 172 (dk_at dksX3_apply_6 0 rfl rfl)
theorem dX3_apply_143 : decode cX3_apply 143 = .ok (.aload_n 0, 1) := dk_42 (dk_at dksX3_apply_6 3 rfl rfl)
theorem dX3_apply_144 : decode cX3_apply 144 = .ok (.iload_n 1, 1) := dk_27 (dk_at dksX3_apply_6 4 rfl rfl)
theorem dX3_apply_145 : decode cX3_apply 145 = .ok (.aload_n 0, 1) := dk_42 (dk_at dksX3_apply_6 5 rfl rfl)
theorem dX3_apply_146 : decode cX3_apply 146 = .ok (.getfield 308, 3) := dk_180 1 52 (dk_at dksX3_apply_6 6 rfl rfl)
theorem dX3_apply_149 : decode cX3_apply 149 = .ok (.aload_n 0, 1) := dk_42 (dk_at dksX3_apply_6 9 rfl rfl)
theorem dX3_apply_150 : decode cX3_apply 150 = .ok (.getfield 13, 3) := dk_180 0 13 (dk_at dksX3_apply_6 10 rfl rfl)
theorem dX3_apply_153 : decode cX3_apply 153 = .ok (.iload_n 1, 1) := dk_27 (dk_at dksX3_apply_6 13 rfl rfl)
theorem dX3_apply_154 : decode cX3_apply 154 = .ok (.iaload, 1) := dk_46 (dk_at dksX3_apply_6 14 rfl rfl)
theorem dX3_apply_155 : decode cX3_apply 155 = .ok (.invokevirtual 318, 3) := dk_182 1 62 (dk_at dksX3_apply_6 15 rfl rfl)
theorem dX3_apply_158 : decode cX3_apply 158 = .ok (.aload_n 0, 1) := dk_42 (dk_at dksX3_apply_6 18 rfl rfl)
theorem dX3_apply_159 : decode cX3_apply 159 = .ok (.getfield 158, 3) := dk_180 0 158 (dk_at dksX3_apply_6 19 rfl rfl)
theorem dX3_apply_162 : decode cX3_apply 162 = .ok (.bipush 24, 2) := dk_16 24 (dk_at dksX3_apply_6 22 rfl rfl)
theorem dX3_apply_164 : decode cX3_apply 164 = .ok (.if_icmp .le 9, 3) := dk_164 0 9 (dk_at dksX3_apply_7 0 rfl rfl)
theorem dX3_apply_167 : decode cX3_apply 167 = .ok (.aload_n 0, 1) := dk_42 (dk_at dksX3_apply_7 3 rfl rfl)
theorem dX3_apply_168 : decode cX3_apply 168 = .ok (.iconst 3, 1) := dk_6 (dk_at dksX3_apply_7 4 rfl rfl)
theorem dX3_apply_169 : decode cX3_apply 169 = .ok (.invokevirtual 130, 3) := dk_182 0 130 (dk_at dksX3_apply_7 5 rfl rfl)
theorem dX3_apply_172 : decode cX3_apply 172 = .ok (.ireturn, 1) := dk_172 (dk_at dksX3_apply_7 8 rfl rfl)
theorem dX3_apply_173 : decode cX3_apply 173 = .ok (.iconst 0, 1) := dk_3 (dk_at dksX3_apply_7 9 rfl rfl)
theorem dX3_apply_174 : decode cX3_apply 174 = .ok (.istore 5, 2) := dk_54 5 (dk_at dksX3_apply_7 10 rfl rfl)
theorem dX3_apply_176 : decode cX3_apply 176 = .ok (.iload 5, 2) := dk_21 5 (dk_at dksX3_apply_7 12 rfl rfl)
theorem dX3_apply_178 : decode cX3_apply 178 = .ok (.iconst 2, 1) := dk_5 (dk_at dksX3_apply_7 14 rfl rfl)
theorem dX3_apply_179 : decode cX3_apply 179 = .ok (.aload_n 0, 1) := dk_42 (dk_at dksX3_apply_7 15 rfl rfl)
theorem dX3_apply_180 : decode cX3_apply 180 = .ok (.getfield 302, 3) := dk_180 1 46 (dk_at dksX3_apply_7 16 rfl rfl)
theorem dX3_apply_183 : decode cX3_apply 183 = .ok (.imul, 1) := dk_104 (dk_at dksX3_apply_7 19 rfl rfl)
theorem dX3_apply_184 : decode cX3_apply 184 = .ok (.if_icmp .ge 23, 3) := dk_162 0 23 (dk_at dksX3_apply_7 20 rfl rfl)
theorem dX3_apply_187 : decode cX3_apply 187 = .ok (.aload_n 0, 1) := dk_42 (dk_at dksX3_apply_7 23 rfl rfl)
theorem dX3_apply_188 : decode cX3_apply 188 = .ok (.getfield 109, 3) := dk_180 0 109 (dk_at dksX3_apply_8 0 rfl rfl)
theorem dX3_apply_191 : decode cX3_apply 191 = .ok (.iload 5, 2) := dk_21 5 (dk_at dksX3_apply_8 3 rfl rfl)
theorem dX3_apply_193 : decode cX3_apply 193 = .ok (.aload_n 0, 1) := dk_42 (dk_at dksX3_apply_8 5 rfl rfl)
theorem dX3_apply_194 : decode cX3_apply 194 = .ok (.getfield 112, 3) := dk_180 0 112 (dk_at dksX3_apply_8 6 rfl rfl)
theorem dX3_apply_197 : decode cX3_apply 197 = .ok (.iload 5, 2) := dk_21 5 (dk_at dksX3_apply_8 9 rfl rfl)
theorem dX3_apply_199 : decode cX3_apply 199 = .ok (.iaload, 1) := dk_46 (dk_at dksX3_apply_8 11 rfl rfl)
theorem dX3_apply_200 : decode cX3_apply 200 = .ok (.iastore, 1) := dk_79 (dk_at dksX3_apply_8 12 rfl rfl)
theorem dX3_apply_201 : decode cX3_apply 201 = .ok (.iinc 5 1, 3) := dk_132 5 1 (dk_at dksX3_apply_8 13 rfl rfl)
theorem dX3_apply_204 : decode cX3_apply 204 = .ok (.goto (-28), 3) := dk_167 255 228 (dk_at dksX3_apply_8 16 rfl rfl)
theorem dX3_apply_207 : decode cX3_apply 207 = .ok (.aload_n 0, 1) := dk_42 (dk_at dksX3_apply_8 19 rfl rfl)
theorem dX3_apply_208 : decode cX3_apply 208 = .ok (.iconst 1, 1) := dk_4 (dk_at dksX3_apply_8 20 rfl rfl)
theorem dX3_apply_209 : decode cX3_apply 209 = .ok (.putfield 299, 3) := dk_181 1 43 (dk_at dksX3_apply_8 21 rfl rfl)
theorem dX3_apply_212 : decode cX3_apply 212 = .ok (.aload_n 0, 1) := dk_42 (dk_at dksX3_apply_9 0 rfl rfl)
theorem dX3_apply_213 : decode cX3_apply 213 = .ok (.iload_n 1, 1) := dk_27 (dk_at dksX3_apply_9 1 rfl rfl)
theorem dX3_apply_214 : decode cX3_apply 214 = .ok (.invokevirtual 134, 3) := dk_182 0 134 (dk_at dksX3_apply_9 2 rfl rfl)
theorem dX3_apply_217 : decode cX3_apply 217 = .ok (.aload_n 0, 1) := dk_42 (dk_at dksX3_apply_9 5 rfl rfl)
theorem dX3_apply_218 : decode cX3_apply 218 = .ok (.iload_n 1, 1) := dk_27 (dk_at dksX3_apply_9 6 rfl rfl)
theorem dX3_apply_219 : decode cX3_apply 219 = .ok (.aload_n 0, 1) := dk_42 (dk_at dksX3_apply_9 7 rfl rfl)
theorem dX3_apply_220 : decode cX3_apply 220 = .ok (.getfield 39, 3) := dk_180 0 39 (dk_at dksX3_apply_9 8 rfl rfl)
theorem dX3_apply_223 : decode cX3_apply 223 = .ok (.aload_n 0, 1) := dk_42 (dk_at dksX3_apply_9 11 rfl rfl)
theorem dX3_apply_224 : decode cX3_apply 224 = .ok (.getfield 158, 3) := dk_180 0 158 (dk_at dksX3_apply_9 12 rfl rfl)
theorem dX3_apply_227 : decode cX3_apply 227 = .ok (.invokevirtual 141, 3) := dk_182 0 141 (dk_at dksX3_apply_9 15 rfl rfl)
theorem dX3_apply_230 : decode cX3_apply 230 = .ok (.aload_n 0, 1) := dk_42 (dk_at dksX3_apply_9 18 rfl rfl)
theorem dX3_apply_231 : decode cX3_apply 231 = .ok (.iload 4, 2) := dk_21 4 (dk_at dksX3_apply_9 19 rfl rfl)
theorem dX3_apply_233 : decode cX3_apply 233 = .ok (.invokevirtual 138, 3) := dk_182 0 138 (dk_at dksX3_apply_9 21 rfl rfl)
theorem dX3_apply_236 : decode cX3_apply 236 = .ok (.ireturn, 1) := dk_172 (dk_at dksX3_apply_10 0 rfl rfl)
abbrev cX3_applies : ByteArray := prog_22_method_70_code
def yX3_applies : MethodName := ⟨RX3, "applies", "(IIIZ)Z"⟩
def dkwX3_applies_13 : List UInt8 := [132, 14, 1, 167, 255, 133, 3, 172]
abbrev dktX3_applies_13 : List UInt8 := dkwX3_applies_13 ++ []
def dkwX3_applies_12 : List UInt8 := [180, 0, 112, 5, 28, 104, 21, 15, 79, 42, 180, 0, 112, 5, 28, 104, 4, 96, 29, 79, 4, 172]
abbrev dktX3_applies_12 : List UInt8 := dkwX3_applies_12 ++ dktX3_applies_13
def dkwX3_applies_11 : List UInt8 := [182, 1, 26, 42, 21, 15, 21, 11, 96, 181, 1, 52, 42, 21, 15, 21, 10, 100, 181, 1, 55, 42]
abbrev dktX3_applies_11 : List UInt8 := dkwX3_applies_11 ++ dktX3_applies_12
def dkwX3_applies_10 : List UInt8 := [153, 0, 68, 42, 27, 42, 180, 1, 52, 21, 15, 182, 1, 62, 42, 25, 9, 21, 12, 21, 12, 21, 13, 96]
abbrev dktX3_applies_10 : List UInt8 := dkwX3_applies_10 ++ dktX3_applies_11
def dkwX3_applies_9 : List UInt8 := [167, 0, 8, 21, 14, 116, 5, 108, 96, 54, 15, 42, 27, 21, 15, 25, 8, 21, 10, 21, 11, 182, 1, 58]
abbrev dktX3_applies_9 : List UInt8 := dkwX3_applies_9 ++ dktX3_applies_10
def dkwX3_applies_8 : List UInt8 := [163, 0, 122, 21, 10, 42, 180, 1, 55, 96, 21, 14, 5, 112, 4, 160, 0, 12, 21, 14, 4, 96, 5, 108]
abbrev dktX3_applies_8 : List UInt8 := dkwX3_applies_8 ++ dktX3_applies_9
def dkwX3_applies_7 : List UInt8 := [167, 0, 7, 21, 5, 6, 96, 46, 21, 6, 100, 21, 7, 100, 54, 13, 3, 54, 14, 21, 14, 16, 20]
abbrev dktX3_applies_7 : List UInt8 := dkwX3_applies_7 ++ dktX3_applies_8
def dkwX3_applies_6 : List UInt8 := [21, 5, 5, 96, 46, 21, 6, 96, 54, 12, 42, 180, 0, 100, 21, 4, 153, 0, 10, 21, 5, 4, 96]
abbrev dktX3_applies_6 : List UInt8 := dkwX3_applies_6 ++ dktX3_applies_7
def dkwX3_applies_5 : List UInt8 := [96, 46, 21, 6, 100, 21, 7, 100, 54, 11, 42, 180, 0, 100, 21, 4, 153, 0, 8, 21, 5, 167, 0, 7]
abbrev dktX3_applies_5 : List UInt8 := dkwX3_applies_5 ++ dktX3_applies_6
def dkwX3_applies_4 : List UInt8 := [21, 6, 96, 54, 10, 42, 180, 0, 100, 21, 4, 153, 0, 10, 21, 5, 6, 96, 167, 0, 7, 21, 5, 4]
abbrev dktX3_applies_4 : List UInt8 := dkwX3_applies_4 ++ dktX3_applies_5
def dkwX3_applies_3 : List UInt8 := [180, 0, 106, 58, 9, 42, 180, 0, 100, 21, 4, 153, 0, 10, 21, 5, 5, 96, 167, 0, 5, 21, 5, 46]
abbrev dktX3_applies_3 : List UInt8 := dkwX3_applies_3 ++ dktX3_applies_4
def dkwX3_applies_2 : List UInt8 := [167, 0, 7, 42, 180, 0, 103, 58, 8, 21, 4, 153, 0, 10, 42, 180, 0, 103, 167, 0, 7, 42]
abbrev dktX3_applies_2 : List UInt8 := dkwX3_applies_2 ++ dktX3_applies_3
def dkwX3_applies_1 : List UInt8 := [180, 0, 100, 21, 5, 8, 96, 46, 184, 1, 49, 54, 7, 21, 4, 153, 0, 10, 42, 180, 0, 106]
abbrev dktX3_applies_1 : List UInt8 := dkwX3_applies_1 ++ dktX3_applies_2
def dkwX3_applies_0 : List UInt8 := [16, 6, 28, 104, 54, 5, 29, 42, 180, 0, 100, 21, 5, 7, 96, 46, 184, 1, 49, 54, 6, 29, 42]
abbrev dktX3_applies_0 : List UInt8 := dkwX3_applies_0 ++ dktX3_applies_1
theorem dksX3_applies_0 : cX3_applies.data.toList.drop 0 = dktX3_applies_0 := by decide +kernel
theorem dksX3_applies_1 : cX3_applies.data.toList.drop 23 = dktX3_applies_1 := dk_seg dksX3_applies_0 23 rfl rfl
theorem dksX3_applies_2 : cX3_applies.data.toList.drop 45 = dktX3_applies_2 := dk_seg dksX3_applies_1 22 rfl rfl
theorem dksX3_applies_3 : cX3_applies.data.toList.drop 67 = dktX3_applies_3 := dk_seg dksX3_applies_2 22 rfl rfl
theorem dksX3_applies_4 : cX3_applies.data.toList.drop 91 = dktX3_applies_4 := dk_seg dksX3_applies_3 24 rfl rfl
theorem dksX3_applies_5 : cX3_applies.data.toList.drop 115 = dktX3_applies_5 := dk_seg dksX3_applies_4 24 rfl rfl
theorem dksX3_applies_6 : cX3_applies.data.toList.drop 139 = dktX3_applies_6 := dk_seg dksX3_applies_5 24 rfl rfl
theorem dksX3_applies_7 : cX3_applies.data.toList.drop 162 = dktX3_applies_7 := dk_seg dksX3_applies_6 23 rfl rfl
theorem dksX3_applies_8 : cX3_applies.data.toList.drop 185 = dktX3_applies_8 := dk_seg dksX3_applies_7 23 rfl rfl
theorem dksX3_applies_9 : cX3_applies.data.toList.drop 209 = dktX3_applies_9 := dk_seg dksX3_applies_8 24 rfl rfl
theorem dksX3_applies_10 : cX3_applies.data.toList.drop 233 = dktX3_applies_10 := dk_seg dksX3_applies_9 24 rfl rfl
theorem dksX3_applies_11 : cX3_applies.data.toList.drop 257 = dktX3_applies_11 := dk_seg dksX3_applies_10 24 rfl rfl
theorem dksX3_applies_12 : cX3_applies.data.toList.drop 279 = dktX3_applies_12 := dk_seg dksX3_applies_11 22 rfl rfl
theorem dksX3_applies_13 : cX3_applies.data.toList.drop 301 = dktX3_applies_13 := dk_seg dksX3_applies_12 22 rfl rfl
theorem dX3_applies_0 : decode cX3_applies 0 = .ok (.bipush 6, 2) := dk_16 6 (dk_at dksX3_applies_0 0 rfl rfl)
theorem dX3_applies_2 : decode cX3_applies 2 = .ok (.iload_n 2, 1) := dk_28 (dk_at dksX3_applies_0 2 rfl rfl)
theorem dX3_applies_3 : decode cX3_applies 3 = .ok (.imul, 1) := dk_104 (dk_at dksX3_applies_0 3 rfl rfl)
theorem dX3_applies_4 : decode cX3_applies 4 = .ok (.istore 5, 2) := dk_54 5 (dk_at dksX3_applies_0 4 rfl rfl)
theorem dX3_applies_6 : decode cX3_applies 6 = .ok (.iload_n 3, 1) := dk_29 (dk_at dksX3_applies_0 6 rfl rfl)
theorem dX3_applies_7 : decode cX3_applies 7 = .ok (.aload_n 0, 1) := dk_42 (dk_at dksX3_applies_0 7 rfl rfl)
theorem dX3_applies_8 : decode cX3_applies 8 = .ok (.getfield 100, 3) := dk_180 0 100 (dk_at dksX3_applies_0 8 rfl rfl)
theorem dX3_applies_11 : decode cX3_applies 11 = .ok (.iload 5, 2) := dk_21 5 (dk_at dksX3_applies_0 11 rfl rfl)
theorem dX3_applies_13 : decode cX3_applies 13 = .ok (.iconst 4, 1) := dk_7 (dk_at dksX3_applies_0 13 rfl rfl)
theorem dX3_applies_14 : decode cX3_applies 14 = .ok (.iadd, 1) := dk_96 (dk_at dksX3_applies_0 14 rfl rfl)
theorem dX3_applies_15 : decode cX3_applies 15 = .ok (.iaload, 1) := dk_46 (dk_at dksX3_applies_0 15 rfl rfl)
theorem dX3_applies_16 : decode cX3_applies 16 = .ok (.invokestatic 305, 3) := dk_184 1 49 (dk_at dksX3_applies_0 16 rfl rfl)
theorem dX3_applies_19 : decode cX3_applies 19 = .ok (.istore 6, 2) := dk_54 6 (dk_at dksX3_applies_0 19 rfl rfl)
theorem dX3_applies_21 : decode cX3_applies 21 = .ok (.iload_n 3, 1) := dk_29 (dk_at dksX3_applies_0 21 rfl rfl)
theorem dX3_applies_22 : decode cX3_applies 22 = .ok (.aload_n 0, 1) := dk_42 (dk_at dksX3_applies_0 22 rfl rfl)
theorem dX3_applies_23 : decode cX3_applies 23 = .ok (.getfield 100, 3) := dk_180 0 100 (dk_at dksX3_applies_1 0 rfl rfl)
theorem dX3_applies_26 : decode cX3_applies 26 = .ok (.iload 5, 2) := dk_21 5 (dk_at dksX3_applies_1 3 rfl rfl)
theorem dX3_applies_28 : decode cX3_applies 28 = .ok (.iconst 5, 1) := dk_8 (dk_at dksX3_applies_1 5 rfl rfl)
theorem dX3_applies_29 : decode cX3_applies 29 = .ok (.iadd, 1) := dk_96 (dk_at dksX3_applies_1 6 rfl rfl)
theorem dX3_applies_30 : decode cX3_applies 30 = .ok (.iaload, 1) := dk_46 (dk_at dksX3_applies_1 7 rfl rfl)
theorem dX3_applies_31 : decode cX3_applies 31 = .ok (.invokestatic 305, 3) := dk_184 1 49 (dk_at dksX3_applies_1 8 rfl rfl)
theorem dX3_applies_34 : decode cX3_applies 34 = .ok (.istore 7, 2) := dk_54 7 (dk_at dksX3_applies_1 11 rfl rfl)
theorem dX3_applies_36 : decode cX3_applies 36 = .ok (.iload 4, 2) := dk_21 4 (dk_at dksX3_applies_1 13 rfl rfl)
theorem dX3_applies_38 : decode cX3_applies 38 = .ok (.ifCond .eq 10, 3) := dk_153 0 10 (dk_at dksX3_applies_1 15 rfl rfl)
theorem dX3_applies_41 : decode cX3_applies 41 = .ok (.aload_n 0, 1) := dk_42 (dk_at dksX3_applies_1 18 rfl rfl)
theorem dX3_applies_42 : decode cX3_applies 42 = .ok (.getfield 106, 3) := dk_180 0 106 (dk_at dksX3_applies_1 19 rfl rfl)
theorem dX3_applies_45 : decode cX3_applies 45 = .ok (.goto 7, 3) := dk_167 0 7 (dk_at dksX3_applies_2 0 rfl rfl)
theorem dX3_applies_48 : decode cX3_applies 48 = .ok (.aload_n 0, 1) := dk_42 (dk_at dksX3_applies_2 3 rfl rfl)
theorem dX3_applies_49 : decode cX3_applies 49 = .ok (.getfield 103, 3) := dk_180 0 103 (dk_at dksX3_applies_2 4 rfl rfl)
theorem dX3_applies_52 : decode cX3_applies 52 = .ok (.astore 8, 2) := dk_58 8 (dk_at dksX3_applies_2 7 rfl rfl)
theorem dX3_applies_54 : decode cX3_applies 54 = .ok (.iload 4, 2) := dk_21 4 (dk_at dksX3_applies_2 9 rfl rfl)
theorem dX3_applies_56 : decode cX3_applies 56 = .ok (.ifCond .eq 10, 3) := dk_153 0 10 (dk_at dksX3_applies_2 11 rfl rfl)
theorem dX3_applies_59 : decode cX3_applies 59 = .ok (.aload_n 0, 1) := dk_42 (dk_at dksX3_applies_2 14 rfl rfl)
theorem dX3_applies_60 : decode cX3_applies 60 = .ok (.getfield 103, 3) := dk_180 0 103 (dk_at dksX3_applies_2 15 rfl rfl)
theorem dX3_applies_63 : decode cX3_applies 63 = .ok (.goto 7, 3) := dk_167 0 7 (dk_at dksX3_applies_2 18 rfl rfl)
theorem dX3_applies_66 : decode cX3_applies 66 = .ok (.aload_n 0, 1) := dk_42 (dk_at dksX3_applies_2 21 rfl rfl)
theorem dX3_applies_67 : decode cX3_applies 67 = .ok (.getfield 106, 3) := dk_180 0 106 (dk_at dksX3_applies_3 0 rfl rfl)
theorem dX3_applies_70 : decode cX3_applies 70 = .ok (.astore 9, 2) := dk_58 9 (dk_at dksX3_applies_3 3 rfl rfl)
theorem dX3_applies_72 : decode cX3_applies 72 = .ok (.aload_n 0, 1) := dk_42 (dk_at dksX3_applies_3 5 rfl rfl)
theorem dX3_applies_73 : decode cX3_applies 73 = .ok (.getfield 100, 3) := dk_180 0 100 (dk_at dksX3_applies_3 6 rfl rfl)
theorem dX3_applies_76 : decode cX3_applies 76 = .ok (.iload 4, 2) := dk_21 4 (dk_at dksX3_applies_3 9 rfl rfl)
theorem dX3_applies_78 : decode cX3_applies 78 = .ok (.ifCond .eq 10, 3) := dk_153 0 10 (dk_at dksX3_applies_3 11 rfl rfl)
theorem dX3_applies_81 : decode cX3_applies 81 = .ok (.iload 5, 2) := dk_21 5 (dk_at dksX3_applies_3 14 rfl rfl)
theorem dX3_applies_83 : decode cX3_applies 83 = .ok (.iconst 2, 1) := dk_5 (dk_at dksX3_applies_3 16 rfl rfl)
theorem dX3_applies_84 : decode cX3_applies 84 = .ok (.iadd, 1) := dk_96 (dk_at dksX3_applies_3 17 rfl rfl)
theorem dX3_applies_85 : decode cX3_applies 85 = .ok (.goto 5, 3) := dk_167 0 5 (dk_at dksX3_applies_3 18 rfl rfl)
theorem dX3_applies_88 : decode cX3_applies 88 = .ok (.iload 5, 2) := dk_21 5 (dk_at dksX3_applies_3 21 rfl rfl)
theorem dX3_applies_90 : decode cX3_applies 90 = .ok (.iaload, 1) := dk_46 (dk_at dksX3_applies_3 23 rfl rfl)
theorem dX3_applies_91 : decode cX3_applies 91 = .ok (.iload 6, 2) := dk_21 6 (dk_at dksX3_applies_4 0 rfl rfl)
theorem dX3_applies_93 : decode cX3_applies 93 = .ok (.iadd, 1) := dk_96 (dk_at dksX3_applies_4 2 rfl rfl)
theorem dX3_applies_94 : decode cX3_applies 94 = .ok (.istore 10, 2) := dk_54 10 (dk_at dksX3_applies_4 3 rfl rfl)
theorem dX3_applies_96 : decode cX3_applies 96 = .ok (.aload_n 0, 1) := dk_42 (dk_at dksX3_applies_4 5 rfl rfl)
theorem dX3_applies_97 : decode cX3_applies 97 = .ok (.getfield 100, 3) := dk_180 0 100 (dk_at dksX3_applies_4 6 rfl rfl)
theorem dX3_applies_100 : decode cX3_applies 100 = .ok (.iload 4, 2) := dk_21 4 (dk_at dksX3_applies_4 9 rfl rfl)
theorem dX3_applies_102 : decode cX3_applies 102 = .ok (.ifCond .eq 10, 3) := dk_153 0 10 (dk_at dksX3_applies_4 11 rfl rfl)
theorem dX3_applies_105 : decode cX3_applies 105 = .ok (.iload 5, 2) := dk_21 5 (dk_at dksX3_applies_4 14 rfl rfl)
theorem dX3_applies_107 : decode cX3_applies 107 = .ok (.iconst 3, 1) := dk_6 (dk_at dksX3_applies_4 16 rfl rfl)
theorem dX3_applies_108 : decode cX3_applies 108 = .ok (.iadd, 1) := dk_96 (dk_at dksX3_applies_4 17 rfl rfl)
theorem dX3_applies_109 : decode cX3_applies 109 = .ok (.goto 7, 3) := dk_167 0 7 (dk_at dksX3_applies_4 18 rfl rfl)
theorem dX3_applies_112 : decode cX3_applies 112 = .ok (.iload 5, 2) := dk_21 5 (dk_at dksX3_applies_4 21 rfl rfl)
theorem dX3_applies_114 : decode cX3_applies 114 = .ok (.iconst 1, 1) := dk_4 (dk_at dksX3_applies_4 23 rfl rfl)
theorem dX3_applies_115 : decode cX3_applies 115 = .ok (.iadd, 1) := dk_96 (dk_at dksX3_applies_5 0 rfl rfl)
theorem dX3_applies_116 : decode cX3_applies 116 = .ok (.iaload, 1) := dk_46 (dk_at dksX3_applies_5 1 rfl rfl)
theorem dX3_applies_117 : decode cX3_applies 117 = .ok (.iload 6, 2) := dk_21 6 (dk_at dksX3_applies_5 2 rfl rfl)
theorem dX3_applies_119 : decode cX3_applies 119 = .ok (.isub, 1) := dk_100 (dk_at dksX3_applies_5 4 rfl rfl)
theorem dX3_applies_120 : decode cX3_applies 120 = .ok (.iload 7, 2) := dk_21 7 (dk_at dksX3_applies_5 5 rfl rfl)
theorem dX3_applies_122 : decode cX3_applies 122 = .ok (.isub, 1) := dk_100 (dk_at dksX3_applies_5 7 rfl rfl)
theorem dX3_applies_123 : decode cX3_applies 123 = .ok (.istore 11, 2) := dk_54 11 (dk_at dksX3_applies_5 8 rfl rfl)
theorem dX3_applies_125 : decode cX3_applies 125 = .ok (.aload_n 0, 1) := dk_42 (dk_at dksX3_applies_5 10 rfl rfl)
theorem dX3_applies_126 : decode cX3_applies 126 = .ok (.getfield 100, 3) := dk_180 0 100 (dk_at dksX3_applies_5 11 rfl rfl)
theorem dX3_applies_129 : decode cX3_applies 129 = .ok (.iload 4, 2) := dk_21 4 (dk_at dksX3_applies_5 14 rfl rfl)
theorem dX3_applies_131 : decode cX3_applies 131 = .ok (.ifCond .eq 8, 3) := dk_153 0 8 (dk_at dksX3_applies_5 16 rfl rfl)
theorem dX3_applies_134 : decode cX3_applies 134 = .ok (.iload 5, 2) := dk_21 5 (dk_at dksX3_applies_5 19 rfl rfl)
theorem dX3_applies_136 : decode cX3_applies 136 = .ok (.goto 7, 3) := dk_167 0 7 (dk_at dksX3_applies_5 21 rfl rfl)
theorem dX3_applies_139 : decode cX3_applies 139 = .ok (.iload 5, 2) := dk_21 5 (dk_at dksX3_applies_6 0 rfl rfl)
theorem dX3_applies_141 : decode cX3_applies 141 = .ok (.iconst 2, 1) := dk_5 (dk_at dksX3_applies_6 2 rfl rfl)
theorem dX3_applies_142 : decode cX3_applies 142 = .ok (.iadd, 1) := dk_96 (dk_at dksX3_applies_6 3 rfl rfl)
theorem dX3_applies_143 : decode cX3_applies 143 = .ok (.iaload, 1) := dk_46 (dk_at dksX3_applies_6 4 rfl rfl)
theorem dX3_applies_144 : decode cX3_applies 144 = .ok (.iload 6, 2) := dk_21 6 (dk_at dksX3_applies_6 5 rfl rfl)
theorem dX3_applies_146 : decode cX3_applies 146 = .ok (.iadd, 1) := dk_96 (dk_at dksX3_applies_6 7 rfl rfl)
theorem dX3_applies_147 : decode cX3_applies 147 = .ok (.istore 12, 2) := dk_54 12 (dk_at dksX3_applies_6 8 rfl rfl)
theorem dX3_applies_149 : decode cX3_applies 149 = .ok (.aload_n 0, 1) := dk_42 (dk_at dksX3_applies_6 10 rfl rfl)
theorem dX3_applies_150 : decode cX3_applies 150 = .ok (.getfield 100, 3) := dk_180 0 100 (dk_at dksX3_applies_6 11 rfl rfl)
theorem dX3_applies_153 : decode cX3_applies 153 = .ok (.iload 4, 2) := dk_21 4 (dk_at dksX3_applies_6 14 rfl rfl)
theorem dX3_applies_155 : decode cX3_applies 155 = .ok (.ifCond .eq 10, 3) := dk_153 0 10 (dk_at dksX3_applies_6 16 rfl rfl)
theorem dX3_applies_158 : decode cX3_applies 158 = .ok (.iload 5, 2) := dk_21 5 (dk_at dksX3_applies_6 19 rfl rfl)
theorem dX3_applies_160 : decode cX3_applies 160 = .ok (.iconst 1, 1) := dk_4 (dk_at dksX3_applies_6 21 rfl rfl)
theorem dX3_applies_161 : decode cX3_applies 161 = .ok (.iadd, 1) := dk_96 (dk_at dksX3_applies_6 22 rfl rfl)
theorem dX3_applies_162 : decode cX3_applies 162 = .ok (.goto 7, 3) := dk_167 0 7 (dk_at dksX3_applies_7 0 rfl rfl)
theorem dX3_applies_165 : decode cX3_applies 165 = .ok (.iload 5, 2) := dk_21 5 (dk_at dksX3_applies_7 3 rfl rfl)
theorem dX3_applies_167 : decode cX3_applies 167 = .ok (.iconst 3, 1) := dk_6 (dk_at dksX3_applies_7 5 rfl rfl)
theorem dX3_applies_168 : decode cX3_applies 168 = .ok (.iadd, 1) := dk_96 (dk_at dksX3_applies_7 6 rfl rfl)
theorem dX3_applies_169 : decode cX3_applies 169 = .ok (.iaload, 1) := dk_46 (dk_at dksX3_applies_7 7 rfl rfl)
theorem dX3_applies_170 : decode cX3_applies 170 = .ok (.iload 6, 2) := dk_21 6 (dk_at dksX3_applies_7 8 rfl rfl)
theorem dX3_applies_172 : decode cX3_applies 172 = .ok (.isub, 1) := dk_100 (dk_at dksX3_applies_7 10 rfl rfl)
theorem dX3_applies_173 : decode cX3_applies 173 = .ok (.iload 7, 2) := dk_21 7 (dk_at dksX3_applies_7 11 rfl rfl)
theorem dX3_applies_175 : decode cX3_applies 175 = .ok (.isub, 1) := dk_100 (dk_at dksX3_applies_7 13 rfl rfl)
theorem dX3_applies_176 : decode cX3_applies 176 = .ok (.istore 13, 2) := dk_54 13 (dk_at dksX3_applies_7 14 rfl rfl)
theorem dX3_applies_178 : decode cX3_applies 178 = .ok (.iconst 0, 1) := dk_3 (dk_at dksX3_applies_7 16 rfl rfl)
theorem dX3_applies_179 : decode cX3_applies 179 = .ok (.istore 14, 2) := dk_54 14 (dk_at dksX3_applies_7 17 rfl rfl)
theorem dX3_applies_181 : decode cX3_applies 181 = .ok (.iload 14, 2) := dk_21 14 (dk_at dksX3_applies_7 19 rfl rfl)
theorem dX3_applies_183 : decode cX3_applies 183 = .ok (.bipush 20, 2) := dk_16 20 (dk_at dksX3_applies_7 21 rfl rfl)
theorem dX3_applies_185 : decode cX3_applies 185 = .ok (.if_icmp .gt 122, 3) := dk_163 0 122 (dk_at dksX3_applies_8 0 rfl rfl)
theorem dX3_applies_188 : decode cX3_applies 188 = .ok (.iload 10, 2) := dk_21 10 (dk_at dksX3_applies_8 3 rfl rfl)
theorem dX3_applies_190 : decode cX3_applies 190 = .ok (.aload_n 0, 1) := dk_42 (dk_at dksX3_applies_8 5 rfl rfl)
theorem dX3_applies_191 : decode cX3_applies 191 = .ok (.getfield 311, 3) := dk_180 1 55 (dk_at dksX3_applies_8 6 rfl rfl)
theorem dX3_applies_194 : decode cX3_applies 194 = .ok (.iadd, 1) := dk_96 (dk_at dksX3_applies_8 9 rfl rfl)
theorem dX3_applies_195 : decode cX3_applies 195 = .ok (.iload 14, 2) := dk_21 14 (dk_at dksX3_applies_8 10 rfl rfl)
theorem dX3_applies_197 : decode cX3_applies 197 = .ok (.iconst 2, 1) := dk_5 (dk_at dksX3_applies_8 12 rfl rfl)
theorem dX3_applies_198 : decode cX3_applies 198 = .ok (.irem, 1) := dk_112 (dk_at dksX3_applies_8 13 rfl rfl)
theorem dX3_applies_199 : decode cX3_applies 199 = .ok (.iconst 1, 1) := dk_4 (dk_at dksX3_applies_8 14 rfl rfl)
theorem dX3_applies_200 : decode cX3_applies 200 = .ok (.if_icmp .ne 12, 3) := dk_160 0 12 (dk_at dksX3_applies_8 15 rfl rfl)
theorem dX3_applies_203 : decode cX3_applies 203 = .ok (.iload 14, 2) := dk_21 14 (dk_at dksX3_applies_8 18 rfl rfl)
theorem dX3_applies_205 : decode cX3_applies 205 = .ok (.iconst 1, 1) := dk_4 (dk_at dksX3_applies_8 20 rfl rfl)
theorem dX3_applies_206 : decode cX3_applies 206 = .ok (.iadd, 1) := dk_96 (dk_at dksX3_applies_8 21 rfl rfl)
theorem dX3_applies_207 : decode cX3_applies 207 = .ok (.iconst 2, 1) := dk_5 (dk_at dksX3_applies_8 22 rfl rfl)
theorem dX3_applies_208 : decode cX3_applies 208 = .ok (.idiv, 1) := dk_108 (dk_at dksX3_applies_8 23 rfl rfl)
theorem dX3_applies_209 : decode cX3_applies 209 = .ok (.goto 8, 3) := dk_167 0 8 (dk_at dksX3_applies_9 0 rfl rfl)
theorem dX3_applies_212 : decode cX3_applies 212 = .ok (.iload 14, 2) := dk_21 14 (dk_at dksX3_applies_9 3 rfl rfl)
theorem dX3_applies_214 : decode cX3_applies 214 = .ok (.ineg, 1) := dk_116 (dk_at dksX3_applies_9 5 rfl rfl)
theorem dX3_applies_215 : decode cX3_applies 215 = .ok (.iconst 2, 1) := dk_5 (dk_at dksX3_applies_9 6 rfl rfl)
theorem dX3_applies_216 : decode cX3_applies 216 = .ok (.idiv, 1) := dk_108 (dk_at dksX3_applies_9 7 rfl rfl)
theorem dX3_applies_217 : decode cX3_applies 217 = .ok (.iadd, 1) := dk_96 (dk_at dksX3_applies_9 8 rfl rfl)
theorem dX3_applies_218 : decode cX3_applies 218 = .ok (.istore 15, 2) := dk_54 15 (dk_at dksX3_applies_9 9 rfl rfl)
theorem dX3_applies_220 : decode cX3_applies 220 = .ok (.aload_n 0, 1) := dk_42 (dk_at dksX3_applies_9 11 rfl rfl)
theorem dX3_applies_221 : decode cX3_applies 221 = .ok (.iload_n 1, 1) := dk_27 (dk_at dksX3_applies_9 12 rfl rfl)
theorem dX3_applies_222 : decode cX3_applies 222 = .ok (.iload 15, 2) := dk_21 15 (dk_at dksX3_applies_9 13 rfl rfl)
theorem dX3_applies_224 : decode cX3_applies 224 = .ok (.aload 8, 2) := dk_25 8 (dk_at dksX3_applies_9 15 rfl rfl)
theorem dX3_applies_226 : decode cX3_applies 226 = .ok (.iload 10, 2) := dk_21 10 (dk_at dksX3_applies_9 17 rfl rfl)
theorem dX3_applies_228 : decode cX3_applies 228 = .ok (.iload 11, 2) := dk_21 11 (dk_at dksX3_applies_9 19 rfl rfl)
theorem dX3_applies_230 : decode cX3_applies 230 = .ok (.invokevirtual 314, 3) := dk_182 1 58 (dk_at dksX3_applies_9 21 rfl rfl)
theorem dX3_applies_233 : decode cX3_applies 233 = .ok (.ifCond .eq 68, 3) := dk_153 0 68 (dk_at dksX3_applies_10 0 rfl rfl)
theorem dX3_applies_236 : decode cX3_applies 236 = .ok (.aload_n 0, 1) := dk_42 (dk_at dksX3_applies_10 3 rfl rfl)
theorem dX3_applies_237 : decode cX3_applies 237 = .ok (.iload_n 1, 1) := dk_27 (dk_at dksX3_applies_10 4 rfl rfl)
theorem dX3_applies_238 : decode cX3_applies 238 = .ok (.aload_n 0, 1) := dk_42 (dk_at dksX3_applies_10 5 rfl rfl)
theorem dX3_applies_239 : decode cX3_applies 239 = .ok (.getfield 308, 3) := dk_180 1 52 (dk_at dksX3_applies_10 6 rfl rfl)
theorem dX3_applies_242 : decode cX3_applies 242 = .ok (.iload 15, 2) := dk_21 15 (dk_at dksX3_applies_10 9 rfl rfl)
theorem dX3_applies_244 : decode cX3_applies 244 = .ok (.invokevirtual 318, 3) := dk_182 1 62 (dk_at dksX3_applies_10 11 rfl rfl)
theorem dX3_applies_247 : decode cX3_applies 247 = .ok (.aload_n 0, 1) := dk_42 (dk_at dksX3_applies_10 14 rfl rfl)
theorem dX3_applies_248 : decode cX3_applies 248 = .ok (.aload 9, 2) := dk_25 9 (dk_at dksX3_applies_10 15 rfl rfl)
theorem dX3_applies_250 : decode cX3_applies 250 = .ok (.iload 12, 2) := dk_21 12 (dk_at dksX3_applies_10 17 rfl rfl)
theorem dX3_applies_252 : decode cX3_applies 252 = .ok (.iload 12, 2) := dk_21 12 (dk_at dksX3_applies_10 19 rfl rfl)
theorem dX3_applies_254 : decode cX3_applies 254 = .ok (.iload 13, 2) := dk_21 13 (dk_at dksX3_applies_10 21 rfl rfl)
theorem dX3_applies_256 : decode cX3_applies 256 = .ok (.iadd, 1) := dk_96 (dk_at dksX3_applies_10 23 rfl rfl)
theorem dX3_applies_257 : decode cX3_applies 257 = .ok (.invokevirtual 282, 3) := dk_182 1 26 (dk_at dksX3_applies_11 0 rfl rfl)
theorem dX3_applies_260 : decode cX3_applies 260 = .ok (.aload_n 0, 1) := dk_42 (dk_at dksX3_applies_11 3 rfl rfl)
theorem dX3_applies_261 : decode cX3_applies 261 = .ok (.iload 15, 2) := dk_21 15 (dk_at dksX3_applies_11 4 rfl rfl)
theorem dX3_applies_263 : decode cX3_applies 263 = .ok (.iload 11, 2) := dk_21 11 (dk_at dksX3_applies_11 6 rfl rfl)
theorem dX3_applies_265 : decode cX3_applies 265 = .ok (.iadd, 1) := dk_96 (dk_at dksX3_applies_11 8 rfl rfl)
theorem dX3_applies_266 : decode cX3_applies 266 = .ok (.putfield 308, 3) := dk_181 1 52 (dk_at dksX3_applies_11 9 rfl rfl)
theorem dX3_applies_269 : decode cX3_applies 269 = .ok (.aload_n 0, 1) := dk_42 (dk_at dksX3_applies_11 12 rfl rfl)
theorem dX3_applies_270 : decode cX3_applies 270 = .ok (.iload 15, 2) := dk_21 15 (dk_at dksX3_applies_11 13 rfl rfl)
theorem dX3_applies_272 : decode cX3_applies 272 = .ok (.iload 10, 2) := dk_21 10 (dk_at dksX3_applies_11 15 rfl rfl)
theorem dX3_applies_274 : decode cX3_applies 274 = .ok (.isub, 1) := dk_100 (dk_at dksX3_applies_11 17 rfl rfl)
theorem dX3_applies_275 : decode cX3_applies 275 = .ok (.putfield 311, 3) := dk_181 1 55 (dk_at dksX3_applies_11 18 rfl rfl)
theorem dX3_applies_278 : decode cX3_applies 278 = .ok (.aload_n 0, 1) := dk_42 (dk_at dksX3_applies_11 21 rfl rfl)
theorem dX3_applies_279 : decode cX3_applies 279 = .ok (.getfield 112, 3) := dk_180 0 112 (dk_at dksX3_applies_12 0 rfl rfl)
theorem dX3_applies_282 : decode cX3_applies 282 = .ok (.iconst 2, 1) := dk_5 (dk_at dksX3_applies_12 3 rfl rfl)
theorem dX3_applies_283 : decode cX3_applies 283 = .ok (.iload_n 2, 1) := dk_28 (dk_at dksX3_applies_12 4 rfl rfl)
theorem dX3_applies_284 : decode cX3_applies 284 = .ok (.imul, 1) := dk_104 (dk_at dksX3_applies_12 5 rfl rfl)
theorem dX3_applies_285 : decode cX3_applies 285 = .ok (.iload 15, 2) := dk_21 15 (dk_at dksX3_applies_12 6 rfl rfl)
theorem dX3_applies_287 : decode cX3_applies 287 = .ok (.iastore, 1) := dk_79 (dk_at dksX3_applies_12 8 rfl rfl)
theorem dX3_applies_288 : decode cX3_applies 288 = .ok (.aload_n 0, 1) := dk_42 (dk_at dksX3_applies_12 9 rfl rfl)
theorem dX3_applies_289 : decode cX3_applies 289 = .ok (.getfield 112, 3) := dk_180 0 112 (dk_at dksX3_applies_12 10 rfl rfl)
theorem dX3_applies_292 : decode cX3_applies 292 = .ok (.iconst 2, 1) := dk_5 (dk_at dksX3_applies_12 13 rfl rfl)
theorem dX3_applies_293 : decode cX3_applies 293 = .ok (.iload_n 2, 1) := dk_28 (dk_at dksX3_applies_12 14 rfl rfl)
theorem dX3_applies_294 : decode cX3_applies 294 = .ok (.imul, 1) := dk_104 (dk_at dksX3_applies_12 15 rfl rfl)
theorem dX3_applies_295 : decode cX3_applies 295 = .ok (.iconst 1, 1) := dk_4 (dk_at dksX3_applies_12 16 rfl rfl)
theorem dX3_applies_296 : decode cX3_applies 296 = .ok (.iadd, 1) := dk_96 (dk_at dksX3_applies_12 17 rfl rfl)
theorem dX3_applies_297 : decode cX3_applies 297 = .ok (.iload_n 3, 1) := dk_29 (dk_at dksX3_applies_12 18 rfl rfl)
theorem dX3_applies_298 : decode cX3_applies 298 = .ok (.iastore, 1) := dk_79 (dk_at dksX3_applies_12 19 rfl rfl)
theorem dX3_applies_299 : decode cX3_applies 299 = .ok (.iconst 1, 1) := dk_4 (dk_at dksX3_applies_12 20 rfl rfl)
theorem dX3_applies_300 : decode cX3_applies 300 = .ok (.ireturn, 1) := dk_172 (dk_at dksX3_applies_12 21 rfl rfl)
theorem dX3_applies_301 : decode cX3_applies 301 = .ok (.iinc 14 1, 3) := dk_132 14 1 (dk_at dksX3_applies_13 0 rfl rfl)
theorem dX3_applies_304 : decode cX3_applies 304 = .ok (.goto (-123), 3) := dk_167 255 133 (dk_at dksX3_applies_13 3 rfl rfl)
theorem dX3_applies_307 : decode cX3_applies 307 = .ok (.iconst 0, 1) := dk_3 (dk_at dksX3_applies_13 6 rfl rfl)
theorem dX3_applies_308 : decode cX3_applies 308 = .ok (.ireturn, 1) := dk_172 (dk_at dksX3_applies_13 7 rfl rfl)
abbrev cX3_fits : ByteArray := prog_22_method_68_code
def yX3_fits : MethodName := ⟨RX3, "fits", "(II[III)Z"⟩
def dkwX3_fits_3 : List UInt8 := [167, 0, 4, 3, 54, 6, 132, 7, 1, 167, 255, 210, 21, 6, 172]
abbrev dktX3_fits_3 : List UInt8 := dkwX3_fits_3 ++ []
def dkwX3_fits_2 : List UInt8 := [180, 0, 7, 16, 24, 27, 104, 28, 96, 21, 7, 96, 46, 45, 21, 4, 21, 7, 96, 46, 160, 0, 7, 4]
abbrev dktX3_fits_2 : List UInt8 := dkwX3_fits_2 ++ dktX3_fits_3
def dkwX3_fits_1 : List UInt8 := [167, 0, 4, 3, 54, 6, 3, 54, 7, 21, 7, 21, 5, 162, 0, 45, 21, 6, 153, 0, 40, 42]
abbrev dktX3_fits_1 : List UInt8 := dkwX3_fits_1 ++ dktX3_fits_2
def dkwX3_fits_0 : List UInt8 := [28, 42, 180, 1, 52, 161, 0, 20, 28, 21, 5, 96, 42, 180, 0, 13, 27, 46, 163, 0, 7, 4]
abbrev dktX3_fits_0 : List UInt8 := dkwX3_fits_0 ++ dktX3_fits_1
theorem dksX3_fits_0 : cX3_fits.data.toList.drop 0 = dktX3_fits_0 := by decide +kernel
theorem dksX3_fits_1 : cX3_fits.data.toList.drop 22 = dktX3_fits_1 := dk_seg dksX3_fits_0 22 rfl rfl
theorem dksX3_fits_2 : cX3_fits.data.toList.drop 44 = dktX3_fits_2 := dk_seg dksX3_fits_1 22 rfl rfl
theorem dksX3_fits_3 : cX3_fits.data.toList.drop 68 = dktX3_fits_3 := dk_seg dksX3_fits_2 24 rfl rfl
theorem dX3_fits_0 : decode cX3_fits 0 = .ok (.iload_n 2, 1) := dk_28 (dk_at dksX3_fits_0 0 rfl rfl)
theorem dX3_fits_1 : decode cX3_fits 1 = .ok (.aload_n 0, 1) := dk_42 (dk_at dksX3_fits_0 1 rfl rfl)
theorem dX3_fits_2 : decode cX3_fits 2 = .ok (.getfield 308, 3) := dk_180 1 52 (dk_at dksX3_fits_0 2 rfl rfl)
theorem dX3_fits_5 : decode cX3_fits 5 = .ok (.if_icmp .lt 20, 3) := dk_161 0 20 (dk_at dksX3_fits_0 5 rfl rfl)
theorem dX3_fits_8 : decode cX3_fits 8 = .ok (.iload_n 2, 1) := dk_28 (dk_at dksX3_fits_0 8 rfl rfl)
theorem dX3_fits_9 : decode cX3_fits 9 = .ok (.iload 5, 2) := dk_21 5 (dk_at dksX3_fits_0 9 rfl rfl)
theorem dX3_fits_11 : decode cX3_fits 11 = .ok (.iadd, 1) := dk_96 (dk_at dksX3_fits_0 11 rfl rfl)
theorem dX3_fits_12 : decode cX3_fits 12 = .ok (.aload_n 0, 1) := dk_42 (dk_at dksX3_fits_0 12 rfl rfl)
theorem dX3_fits_13 : decode cX3_fits 13 = .ok (.getfield 13, 3) := dk_180 0 13 (dk_at dksX3_fits_0 13 rfl rfl)
theorem dX3_fits_16 : decode cX3_fits 16 = .ok (.iload_n 1, 1) := dk_27 (dk_at dksX3_fits_0 16 rfl rfl)
theorem dX3_fits_17 : decode cX3_fits 17 = .ok (.iaload, 1) := dk_46 (dk_at dksX3_fits_0 17 rfl rfl)
theorem dX3_fits_18 : decode cX3_fits 18 = .ok (.if_icmp .gt 7, 3) := dk_163 0 7 (dk_at dksX3_fits_0 18 rfl rfl)
theorem dX3_fits_21 : decode cX3_fits 21 = .ok (.iconst 1, 1) := dk_4 (dk_at dksX3_fits_0 21 rfl rfl)
theorem dX3_fits_22 : decode cX3_fits 22 = .ok (.goto 4, 3) := dk_167 0 4 (dk_at dksX3_fits_1 0 rfl rfl)
theorem dX3_fits_25 : decode cX3_fits 25 = .ok (.iconst 0, 1) := dk_3 (dk_at dksX3_fits_1 3 rfl rfl)
theorem dX3_fits_26 : decode cX3_fits 26 = .ok (.istore 6, 2) := dk_54 6 (dk_at dksX3_fits_1 4 rfl rfl)
theorem dX3_fits_28 : decode cX3_fits 28 = .ok (.iconst 0, 1) := dk_3 (dk_at dksX3_fits_1 6 rfl rfl)
theorem dX3_fits_29 : decode cX3_fits 29 = .ok (.istore 7, 2) := dk_54 7 (dk_at dksX3_fits_1 7 rfl rfl)
theorem dX3_fits_31 : decode cX3_fits 31 = .ok (.iload 7, 2) := dk_21 7 (dk_at dksX3_fits_1 9 rfl rfl)
theorem dX3_fits_33 : decode cX3_fits 33 = .ok (.iload 5, 2) := dk_21 5 (dk_at dksX3_fits_1 11 rfl rfl)
theorem dX3_fits_35 : decode cX3_fits 35 = .ok (.if_icmp .ge 45, 3) := dk_162 0 45 (dk_at dksX3_fits_1 13 rfl rfl)
theorem dX3_fits_38 : decode cX3_fits 38 = .ok (.iload 6, 2) := dk_21 6 (dk_at dksX3_fits_1 16 rfl rfl)
theorem dX3_fits_40 : decode cX3_fits 40 = .ok (.ifCond .eq 40, 3) := dk_153 0 40 (dk_at dksX3_fits_1 18 rfl rfl)
theorem dX3_fits_43 : decode cX3_fits 43 = .ok (.aload_n 0, 1) := dk_42 (dk_at dksX3_fits_1 21 rfl rfl)
theorem dX3_fits_44 : decode cX3_fits 44 = .ok (.getfield 7, 3) := dk_180 0 7 (dk_at dksX3_fits_2 0 rfl rfl)
theorem dX3_fits_47 : decode cX3_fits 47 = .ok (.bipush 24, 2) := dk_16 24 (dk_at dksX3_fits_2 3 rfl rfl)
theorem dX3_fits_49 : decode cX3_fits 49 = .ok (.iload_n 1, 1) := dk_27 (dk_at dksX3_fits_2 5 rfl rfl)
theorem dX3_fits_50 : decode cX3_fits 50 = .ok (.imul, 1) := dk_104 (dk_at dksX3_fits_2 6 rfl rfl)
theorem dX3_fits_51 : decode cX3_fits 51 = .ok (.iload_n 2, 1) := dk_28 (dk_at dksX3_fits_2 7 rfl rfl)
theorem dX3_fits_52 : decode cX3_fits 52 = .ok (.iadd, 1) := dk_96 (dk_at dksX3_fits_2 8 rfl rfl)
theorem dX3_fits_53 : decode cX3_fits 53 = .ok (.iload 7, 2) := dk_21 7 (dk_at dksX3_fits_2 9 rfl rfl)
theorem dX3_fits_55 : decode cX3_fits 55 = .ok (.iadd, 1) := dk_96 (dk_at dksX3_fits_2 11 rfl rfl)
theorem dX3_fits_56 : decode cX3_fits 56 = .ok (.iaload, 1) := dk_46 (dk_at dksX3_fits_2 12 rfl rfl)
theorem dX3_fits_57 : decode cX3_fits 57 = .ok (.aload_n 3, 1) := dk_45 (dk_at dksX3_fits_2 13 rfl rfl)
theorem dX3_fits_58 : decode cX3_fits 58 = .ok (.iload 4, 2) := dk_21 4 (dk_at dksX3_fits_2 14 rfl rfl)
theorem dX3_fits_60 : decode cX3_fits 60 = .ok (.iload 7, 2) := dk_21 7 (dk_at dksX3_fits_2 16 rfl rfl)
theorem dX3_fits_62 : decode cX3_fits 62 = .ok (.iadd, 1) := dk_96 (dk_at dksX3_fits_2 18 rfl rfl)
theorem dX3_fits_63 : decode cX3_fits 63 = .ok (.iaload, 1) := dk_46 (dk_at dksX3_fits_2 19 rfl rfl)
theorem dX3_fits_64 : decode cX3_fits 64 = .ok (.if_icmp .ne 7, 3) := dk_160 0 7 (dk_at dksX3_fits_2 20 rfl rfl)
theorem dX3_fits_67 : decode cX3_fits 67 = .ok (.iconst 1, 1) := dk_4 (dk_at dksX3_fits_2 23 rfl rfl)
theorem dX3_fits_68 : decode cX3_fits 68 = .ok (.goto 4, 3) := dk_167 0 4 (dk_at dksX3_fits_3 0 rfl rfl)
theorem dX3_fits_71 : decode cX3_fits 71 = .ok (.iconst 0, 1) := dk_3 (dk_at dksX3_fits_3 3 rfl rfl)
theorem dX3_fits_72 : decode cX3_fits 72 = .ok (.istore 6, 2) := dk_54 6 (dk_at dksX3_fits_3 4 rfl rfl)
theorem dX3_fits_74 : decode cX3_fits 74 = .ok (.iinc 7 1, 3) := dk_132 7 1 (dk_at dksX3_fits_3 6 rfl rfl)
theorem dX3_fits_77 : decode cX3_fits 77 = .ok (.goto (-46), 3) := dk_167 255 210 (dk_at dksX3_fits_3 9 rfl rfl)
theorem dX3_fits_80 : decode cX3_fits 80 = .ok (.iload 6, 2) := dk_21 6 (dk_at dksX3_fits_3 12 rfl rfl)
theorem dX3_fits_82 : decode cX3_fits 82 = .ok (.ireturn, 1) := dk_172 (dk_at dksX3_fits_3 14 rfl rfl)
abbrev cX3_goesOutDocument : ByteArray := prog_22_method_69_code
def yX3_goesOutDocument : MethodName := ⟨RX3, "goesOutDocument", "(III)V"⟩
def dkwX3_goesOutDocument_1 : List UInt8 := [104, 21, 4, 96, 46, 79, 42, 89, 180, 0, 158, 4, 96, 181, 0, 158, 132, 4, 1, 167, 255, 216, 177]
abbrev dktX3_goesOutDocument_1 : List UInt8 := dkwX3_goesOutDocument_1 ++ []
def dkwX3_goesOutDocument_0 : List UInt8 := [28, 54, 4, 21, 4, 29, 162, 0, 40, 42, 180, 0, 39, 42, 180, 0, 158, 42, 180, 0, 7, 16, 24, 27]
abbrev dktX3_goesOutDocument_0 : List UInt8 := dkwX3_goesOutDocument_0 ++ dktX3_goesOutDocument_1
theorem dksX3_goesOutDocument_0 : cX3_goesOutDocument.data.toList.drop 0 = dktX3_goesOutDocument_0 := by decide +kernel
theorem dksX3_goesOutDocument_1 : cX3_goesOutDocument.data.toList.drop 24 = dktX3_goesOutDocument_1 := dk_seg dksX3_goesOutDocument_0 24 rfl rfl
theorem dX3_goesOutDocument_0 : decode cX3_goesOutDocument 0 = .ok (.iload_n 2, 1) := dk_28 (dk_at dksX3_goesOutDocument_0 0 rfl rfl)
theorem dX3_goesOutDocument_1 : decode cX3_goesOutDocument 1 = .ok (.istore 4, 2) := dk_54 4 (dk_at dksX3_goesOutDocument_0 1 rfl rfl)
theorem dX3_goesOutDocument_3 : decode cX3_goesOutDocument 3 = .ok (.iload 4, 2) := dk_21 4 (dk_at dksX3_goesOutDocument_0 3 rfl rfl)
theorem dX3_goesOutDocument_5 : decode cX3_goesOutDocument 5 = .ok (.iload_n 3, 1) := dk_29 (dk_at dksX3_goesOutDocument_0 5 rfl rfl)
theorem dX3_goesOutDocument_6 : decode cX3_goesOutDocument 6 = .ok (.if_icmp .ge 40, 3) := dk_162 0 40 (dk_at dksX3_goesOutDocument_0 6 rfl rfl)
theorem dX3_goesOutDocument_9 : decode cX3_goesOutDocument 9 = .ok (.aload_n 0, 1) := dk_42 (dk_at dksX3_goesOutDocument_0 9 rfl rfl)
theorem dX3_goesOutDocument_10 : decode cX3_goesOutDocument 10 = .ok (.getfield 39, 3) := dk_180 0 39 (dk_at dksX3_goesOutDocument_0 10 rfl rfl)
theorem dX3_goesOutDocument_13 : decode cX3_goesOutDocument 13 = .ok (.aload_n 0, 1) := dk_42 (dk_at dksX3_goesOutDocument_0 13 rfl rfl)
theorem dX3_goesOutDocument_14 : decode cX3_goesOutDocument 14 = .ok (.getfield 158, 3) := dk_180 0 158 (dk_at dksX3_goesOutDocument_0 14 rfl rfl)
theorem dX3_goesOutDocument_17 : decode cX3_goesOutDocument 17 = .ok (.aload_n 0, 1) := dk_42 (dk_at dksX3_goesOutDocument_0 17 rfl rfl)
theorem dX3_goesOutDocument_18 : decode cX3_goesOutDocument 18 = .ok (.getfield 7, 3) := dk_180 0 7 (dk_at dksX3_goesOutDocument_0 18 rfl rfl)
theorem dX3_goesOutDocument_21 : decode cX3_goesOutDocument 21 = .ok (.bipush 24, 2) := dk_16 24 (dk_at dksX3_goesOutDocument_0 21 rfl rfl)
theorem dX3_goesOutDocument_23 : decode cX3_goesOutDocument 23 = .ok (.iload_n 1, 1) := dk_27 (dk_at dksX3_goesOutDocument_0 23 rfl rfl)
theorem dX3_goesOutDocument_24 : decode cX3_goesOutDocument 24 = .ok (.imul, 1) := dk_104 (dk_at dksX3_goesOutDocument_1 0 rfl rfl)
theorem dX3_goesOutDocument_25 : decode cX3_goesOutDocument 25 = .ok (.iload 4, 2) := dk_21 4 (dk_at dksX3_goesOutDocument_1 1 rfl rfl)
theorem dX3_goesOutDocument_27 : decode cX3_goesOutDocument 27 = .ok (.iadd, 1) := dk_96 (dk_at dksX3_goesOutDocument_1 3 rfl rfl)
theorem dX3_goesOutDocument_28 : decode cX3_goesOutDocument 28 = .ok (.iaload, 1) := dk_46 (dk_at dksX3_goesOutDocument_1 4 rfl rfl)
theorem dX3_goesOutDocument_29 : decode cX3_goesOutDocument 29 = .ok (.iastore, 1) := dk_79 (dk_at dksX3_goesOutDocument_1 5 rfl rfl)
theorem dX3_goesOutDocument_30 : decode cX3_goesOutDocument 30 = .ok (.aload_n 0, 1) := dk_42 (dk_at dksX3_goesOutDocument_1 6 rfl rfl)
theorem dX3_goesOutDocument_31 : decode cX3_goesOutDocument 31 = .ok (.dup, 1) := dk_89 (dk_at dksX3_goesOutDocument_1 7 rfl rfl)
theorem dX3_goesOutDocument_32 : decode cX3_goesOutDocument 32 = .ok (.getfield 158, 3) := dk_180 0 158 (dk_at dksX3_goesOutDocument_1 8 rfl rfl)
theorem dX3_goesOutDocument_35 : decode cX3_goesOutDocument 35 = .ok (.iconst 1, 1) := dk_4 (dk_at dksX3_goesOutDocument_1 11 rfl rfl)
theorem dX3_goesOutDocument_36 : decode cX3_goesOutDocument 36 = .ok (.iadd, 1) := dk_96 (dk_at dksX3_goesOutDocument_1 12 rfl rfl)
theorem dX3_goesOutDocument_37 : decode cX3_goesOutDocument 37 = .ok (.putfield 158, 3) := dk_181 0 158 (dk_at dksX3_goesOutDocument_1 13 rfl rfl)
theorem dX3_goesOutDocument_40 : decode cX3_goesOutDocument 40 = .ok (.iinc 4 1, 3) := dk_132 4 1 (dk_at dksX3_goesOutDocument_1 16 rfl rfl)
theorem dX3_goesOutDocument_43 : decode cX3_goesOutDocument 43 = .ok (.goto (-40), 3) := dk_167 255 216 (dk_at dksX3_goesOutDocument_1 19 rfl rfl)
theorem dX3_goesOutDocument_46 : decode cX3_goesOutDocument 46 = .ok (.return_, 1) := dk_177 (dk_at dksX3_goesOutDocument_1 22 rfl rfl)
abbrev cX3_outcome : ByteArray := prog_22_method_72_code
def yX3_outcome : MethodName := ⟨RX3, "outcome", "(II)I"⟩
def dkwX3_outcome_2 : List UInt8 := [182, 0, 138, 167, 0, 8, 42, 5, 182, 0, 130, 172]
abbrev dktX3_outcome_2 : List UInt8 := dkwX3_outcome_2 ++ []
def dkwX3_outcome_1 : List UInt8 := [182, 0, 130, 172, 28, 3, 4, 184, 0, 119, 153, 0, 20, 42, 42, 180, 0, 109, 5, 27, 104, 28, 96, 46]
abbrev dktX3_outcome_1 : List UInt8 := dkwX3_outcome_1 ++ dktX3_outcome_2
def dkwX3_outcome_0 : List UInt8 := [42, 180, 1, 43, 153, 0, 17, 27, 3, 42, 180, 1, 46, 4, 100, 184, 0, 119, 154, 0, 9, 42, 4]
abbrev dktX3_outcome_0 : List UInt8 := dkwX3_outcome_0 ++ dktX3_outcome_1
theorem dksX3_outcome_0 : cX3_outcome.data.toList.drop 0 = dktX3_outcome_0 := by decide +kernel
theorem dksX3_outcome_1 : cX3_outcome.data.toList.drop 23 = dktX3_outcome_1 := dk_seg dksX3_outcome_0 23 rfl rfl
theorem dksX3_outcome_2 : cX3_outcome.data.toList.drop 47 = dktX3_outcome_2 := dk_seg dksX3_outcome_1 24 rfl rfl
theorem dX3_outcome_0 : decode cX3_outcome 0 = .ok (.aload_n 0, 1) := dk_42 (dk_at dksX3_outcome_0 0 rfl rfl)
theorem dX3_outcome_1 : decode cX3_outcome 1 = .ok (.getfield 299, 3) := dk_180 1 43 (dk_at dksX3_outcome_0 1 rfl rfl)
theorem dX3_outcome_4 : decode cX3_outcome 4 = .ok (.ifCond .eq 17, 3) := dk_153 0 17 (dk_at dksX3_outcome_0 4 rfl rfl)
theorem dX3_outcome_7 : decode cX3_outcome 7 = .ok (.iload_n 1, 1) := dk_27 (dk_at dksX3_outcome_0 7 rfl rfl)
theorem dX3_outcome_8 : decode cX3_outcome 8 = .ok (.iconst 0, 1) := dk_3 (dk_at dksX3_outcome_0 8 rfl rfl)
theorem dX3_outcome_9 : decode cX3_outcome 9 = .ok (.aload_n 0, 1) := dk_42 (dk_at dksX3_outcome_0 9 rfl rfl)
theorem dX3_outcome_10 : decode cX3_outcome 10 = .ok (.getfield 302, 3) := dk_180 1 46 (dk_at dksX3_outcome_0 10 rfl rfl)
theorem dX3_outcome_13 : decode cX3_outcome 13 = .ok (.iconst 1, 1) := dk_4 (dk_at dksX3_outcome_0 13 rfl rfl)
theorem dX3_outcome_14 : decode cX3_outcome 14 = .ok (.isub, 1) := dk_100 (dk_at dksX3_outcome_0 14 rfl rfl)
theorem dX3_outcome_15 : decode cX3_outcome 15 = .ok (.invokestatic 119, 3) := dk_184 0 119 (dk_at dksX3_outcome_0 15 rfl rfl)
theorem dX3_outcome_18 : decode cX3_outcome 18 = .ok (.ifCond .ne 9, 3) := dk_154 0 9 (dk_at dksX3_outcome_0 18 rfl rfl)
theorem dX3_outcome_21 : decode cX3_outcome 21 = .ok (.aload_n 0, 1) := dk_42 (dk_at dksX3_outcome_0 21 rfl rfl)
theorem dX3_outcome_22 : decode cX3_outcome 22 = .ok (.iconst 1, 1) := dk_4 (dk_at dksX3_outcome_0 22 rfl rfl)
theorem dX3_outcome_23 : decode cX3_outcome 23 = .ok (.invokevirtual 130, 3) := dk_182 0 130 (dk_at dksX3_outcome_1 0 rfl rfl)
theorem dX3_outcome_26 : decode cX3_outcome 26 = .ok (.ireturn, 1) := dk_172 (dk_at dksX3_outcome_1 3 rfl rfl)
theorem dX3_outcome_27 : decode cX3_outcome 27 = .ok (.iload_n 2, 1) := dk_28 (dk_at dksX3_outcome_1 4 rfl rfl)
theorem dX3_outcome_28 : decode cX3_outcome 28 = .ok (.iconst 0, 1) := dk_3 (dk_at dksX3_outcome_1 5 rfl rfl)
theorem dX3_outcome_29 : decode cX3_outcome 29 = .ok (.iconst 1, 1) := dk_4 (dk_at dksX3_outcome_1 6 rfl rfl)
theorem dX3_outcome_30 : decode cX3_outcome 30 = .ok (.invokestatic 119, 3) := dk_184 0 119 (dk_at dksX3_outcome_1 7 rfl rfl)
theorem dX3_outcome_33 : decode cX3_outcome 33 = .ok (.ifCond .eq 20, 3) := dk_153 0 20 (dk_at dksX3_outcome_1 10 rfl rfl)
theorem dX3_outcome_36 : decode cX3_outcome 36 = .ok (.aload_n 0, 1) := dk_42 (dk_at dksX3_outcome_1 13 rfl rfl)
theorem dX3_outcome_37 : decode cX3_outcome 37 = .ok (.aload_n 0, 1) := dk_42 (dk_at dksX3_outcome_1 14 rfl rfl)
theorem dX3_outcome_38 : decode cX3_outcome 38 = .ok (.getfield 109, 3) := dk_180 0 109 (dk_at dksX3_outcome_1 15 rfl rfl)
theorem dX3_outcome_41 : decode cX3_outcome 41 = .ok (.iconst 2, 1) := dk_5 (dk_at dksX3_outcome_1 18 rfl rfl)
theorem dX3_outcome_42 : decode cX3_outcome 42 = .ok (.iload_n 1, 1) := dk_27 (dk_at dksX3_outcome_1 19 rfl rfl)
theorem dX3_outcome_43 : decode cX3_outcome 43 = .ok (.imul, 1) := dk_104 (dk_at dksX3_outcome_1 20 rfl rfl)
theorem dX3_outcome_44 : decode cX3_outcome 44 = .ok (.iload_n 2, 1) := dk_28 (dk_at dksX3_outcome_1 21 rfl rfl)
theorem dX3_outcome_45 : decode cX3_outcome 45 = .ok (.iadd, 1) := dk_96 (dk_at dksX3_outcome_1 22 rfl rfl)
theorem dX3_outcome_46 : decode cX3_outcome 46 = .ok (.iaload, 1) := dk_46 (dk_at dksX3_outcome_1 23 rfl rfl)
theorem dX3_outcome_47 : decode cX3_outcome 47 = .ok (.invokevirtual 138, 3) := dk_182 0 138 (dk_at dksX3_outcome_2 0 rfl rfl)
theorem dX3_outcome_50 : decode cX3_outcome 50 = .ok (.goto 8, 3) := dk_167 0 8 (dk_at dksX3_outcome_2 3 rfl rfl)
theorem dX3_outcome_53 : decode cX3_outcome 53 = .ok (.aload_n 0, 1) := dk_42 (dk_at dksX3_outcome_2 6 rfl rfl)
theorem dX3_outcome_54 : decode cX3_outcome 54 = .ok (.iconst 2, 1) := dk_5 (dk_at dksX3_outcome_2 7 rfl rfl)
theorem dX3_outcome_55 : decode cX3_outcome 55 = .ok (.invokevirtual 130, 3) := dk_182 0 130 (dk_at dksX3_outcome_2 8 rfl rfl)
theorem dX3_outcome_58 : decode cX3_outcome 58 = .ok (.ireturn, 1) := dk_172 (dk_at dksX3_outcome_2 11 rfl rfl)
abbrev cX3_undo : ByteArray := prog_22_method_73_code
def yX3_undo : MethodName := ⟨RX3, "undo", "()I"⟩
def dkwX3_undo_3 : List UInt8 := [42, 180, 0, 123, 104, 28, 96, 46, 79, 132, 2, 1, 167, 255, 222, 42, 27, 182, 0, 138, 172]
abbrev dktX3_undo_3 : List UInt8 := dkwX3_undo_3 ++ []
def dkwX3_undo_2 : List UInt8 := [3, 61, 28, 16, 24, 162, 0, 34, 42, 180, 0, 7, 16, 24, 27, 104, 28, 96, 42, 180, 0, 30, 16, 24]
abbrev dktX3_undo_2 : List UInt8 := dkwX3_undo_2 ++ dktX3_undo_3
def dkwX3_undo_1 : List UInt8 := [180, 0, 24, 42, 180, 0, 123, 46, 60, 42, 180, 0, 13, 27, 42, 180, 0, 27, 42, 180, 0, 123, 46, 79]
abbrev dktX3_undo_1 : List UInt8 := dkwX3_undo_1 ++ dktX3_undo_2
def dkwX3_undo_0 : List UInt8 := [42, 180, 0, 123, 154, 0, 9, 42, 4, 182, 0, 130, 172, 42, 89, 180, 0, 123, 4, 100, 181, 0, 123, 42]
abbrev dktX3_undo_0 : List UInt8 := dkwX3_undo_0 ++ dktX3_undo_1
theorem dksX3_undo_0 : cX3_undo.data.toList.drop 0 = dktX3_undo_0 := by decide +kernel
theorem dksX3_undo_1 : cX3_undo.data.toList.drop 24 = dktX3_undo_1 := dk_seg dksX3_undo_0 24 rfl rfl
theorem dksX3_undo_2 : cX3_undo.data.toList.drop 48 = dktX3_undo_2 := dk_seg dksX3_undo_1 24 rfl rfl
theorem dksX3_undo_3 : cX3_undo.data.toList.drop 72 = dktX3_undo_3 := dk_seg dksX3_undo_2 24 rfl rfl
theorem dX3_undo_0 : decode cX3_undo 0 = .ok (.aload_n 0, 1) := dk_42 (dk_at dksX3_undo_0 0 rfl rfl)
theorem dX3_undo_1 : decode cX3_undo 1 = .ok (.getfield 123, 3) := dk_180 0 123 (dk_at dksX3_undo_0 1 rfl rfl)
theorem dX3_undo_4 : decode cX3_undo 4 = .ok (.ifCond .ne 9, 3) := dk_154 0 9 (dk_at dksX3_undo_0 4 rfl rfl)
theorem dX3_undo_7 : decode cX3_undo 7 = .ok (.aload_n 0, 1) := dk_42 (dk_at dksX3_undo_0 7 rfl rfl)
theorem dX3_undo_8 : decode cX3_undo 8 = .ok (.iconst 1, 1) := dk_4 (dk_at dksX3_undo_0 8 rfl rfl)
theorem dX3_undo_9 : decode cX3_undo 9 = .ok (.invokevirtual 130, 3) := dk_182 0 130 (dk_at dksX3_undo_0 9 rfl rfl)
theorem dX3_undo_12 : decode cX3_undo 12 = .ok (.ireturn, 1) := dk_172 (dk_at dksX3_undo_0 12 rfl rfl)
theorem dX3_undo_13 : decode cX3_undo 13 = .ok (.aload_n 0, 1) := dk_42 (dk_at dksX3_undo_0 13 rfl rfl)
theorem dX3_undo_14 : decode cX3_undo 14 = .ok (.dup, 1) := dk_89 (dk_at dksX3_undo_0 14 rfl rfl)
theorem dX3_undo_15 : decode cX3_undo 15 = .ok (.getfield 123, 3) := dk_180 0 123 (dk_at dksX3_undo_0 15 rfl rfl)
theorem dX3_undo_18 : decode cX3_undo 18 = .ok (.iconst 1, 1) := dk_4 (dk_at dksX3_undo_0 18 rfl rfl)
theorem dX3_undo_19 : decode cX3_undo 19 = .ok (.isub, 1) := dk_100 (dk_at dksX3_undo_0 19 rfl rfl)
theorem dX3_undo_20 : decode cX3_undo 20 = .ok (.putfield 123, 3) := dk_181 0 123 (dk_at dksX3_undo_0 20 rfl rfl)
theorem dX3_undo_23 : decode cX3_undo 23 = .ok (.aload_n 0, 1) := dk_42 (dk_at dksX3_undo_0 23 rfl rfl)
theorem dX3_undo_24 : decode cX3_undo 24 = .ok (.getfield 24, 3) := dk_180 0 24 (dk_at dksX3_undo_1 0 rfl rfl)
theorem dX3_undo_27 : decode cX3_undo 27 = .ok (.aload_n 0, 1) := dk_42 (dk_at dksX3_undo_1 3 rfl rfl)
theorem dX3_undo_28 : decode cX3_undo 28 = .ok (.getfield 123, 3) := dk_180 0 123 (dk_at dksX3_undo_1 4 rfl rfl)
theorem dX3_undo_31 : decode cX3_undo 31 = .ok (.iaload, 1) := dk_46 (dk_at dksX3_undo_1 7 rfl rfl)
theorem dX3_undo_32 : decode cX3_undo 32 = .ok (.istore_n 1, 1) := dk_60 (dk_at dksX3_undo_1 8 rfl rfl)
theorem dX3_undo_33 : decode cX3_undo 33 = .ok (.aload_n 0, 1) := dk_42 (dk_at dksX3_undo_1 9 rfl rfl)
theorem dX3_undo_34 : decode cX3_undo 34 = .ok (.getfield 13, 3) := dk_180 0 13 (dk_at dksX3_undo_1 10 rfl rfl)
theorem dX3_undo_37 : decode cX3_undo 37 = .ok (.iload_n 1, 1) := dk_27 (dk_at dksX3_undo_1 13 rfl rfl)
theorem dX3_undo_38 : decode cX3_undo 38 = .ok (.aload_n 0, 1) := dk_42 (dk_at dksX3_undo_1 14 rfl rfl)
theorem dX3_undo_39 : decode cX3_undo 39 = .ok (.getfield 27, 3) := dk_180 0 27 (dk_at dksX3_undo_1 15 rfl rfl)
theorem dX3_undo_42 : decode cX3_undo 42 = .ok (.aload_n 0, 1) := dk_42 (dk_at dksX3_undo_1 18 rfl rfl)
theorem dX3_undo_43 : decode cX3_undo 43 = .ok (.getfield 123, 3) := dk_180 0 123 (dk_at dksX3_undo_1 19 rfl rfl)
theorem dX3_undo_46 : decode cX3_undo 46 = .ok (.iaload, 1) := dk_46 (dk_at dksX3_undo_1 22 rfl rfl)
theorem dX3_undo_47 : decode cX3_undo 47 = .ok (.iastore, 1) := dk_79 (dk_at dksX3_undo_1 23 rfl rfl)
theorem dX3_undo_48 : decode cX3_undo 48 = .ok (.iconst 0, 1) := dk_3 (dk_at dksX3_undo_2 0 rfl rfl)
theorem dX3_undo_49 : decode cX3_undo 49 = .ok (.istore_n 2, 1) := dk_61 (dk_at dksX3_undo_2 1 rfl rfl)
theorem dX3_undo_50 : decode cX3_undo 50 = .ok (.iload_n 2, 1) := dk_28 (dk_at dksX3_undo_2 2 rfl rfl)
theorem dX3_undo_51 : decode cX3_undo 51 = .ok (.bipush 24, 2) := dk_16 24 (dk_at dksX3_undo_2 3 rfl rfl)
theorem dX3_undo_53 : decode cX3_undo 53 = .ok (.if_icmp .ge 34, 3) := dk_162 0 34 (dk_at dksX3_undo_2 5 rfl rfl)
theorem dX3_undo_56 : decode cX3_undo 56 = .ok (.aload_n 0, 1) := dk_42 (dk_at dksX3_undo_2 8 rfl rfl)
theorem dX3_undo_57 : decode cX3_undo 57 = .ok (.getfield 7, 3) := dk_180 0 7 (dk_at dksX3_undo_2 9 rfl rfl)
theorem dX3_undo_60 : decode cX3_undo 60 = .ok (.bipush 24, 2) := dk_16 24 (dk_at dksX3_undo_2 12 rfl rfl)
theorem dX3_undo_62 : decode cX3_undo 62 = .ok (.iload_n 1, 1) := dk_27 (dk_at dksX3_undo_2 14 rfl rfl)
theorem dX3_undo_63 : decode cX3_undo 63 = .ok (.imul, 1) := dk_104 (dk_at dksX3_undo_2 15 rfl rfl)
theorem dX3_undo_64 : decode cX3_undo 64 = .ok (.iload_n 2, 1) := dk_28 (dk_at dksX3_undo_2 16 rfl rfl)
theorem dX3_undo_65 : decode cX3_undo 65 = .ok (.iadd, 1) := dk_96 (dk_at dksX3_undo_2 17 rfl rfl)
theorem dX3_undo_66 : decode cX3_undo 66 = .ok (.aload_n 0, 1) := dk_42 (dk_at dksX3_undo_2 18 rfl rfl)
theorem dX3_undo_67 : decode cX3_undo 67 = .ok (.getfield 30, 3) := dk_180 0 30 (dk_at dksX3_undo_2 19 rfl rfl)
theorem dX3_undo_70 : decode cX3_undo 70 = .ok (.bipush 24, 2) := dk_16 24 (dk_at dksX3_undo_2 22 rfl rfl)
theorem dX3_undo_72 : decode cX3_undo 72 = .ok (.aload_n 0, 1) := dk_42 (dk_at dksX3_undo_3 0 rfl rfl)
theorem dX3_undo_73 : decode cX3_undo 73 = .ok (.getfield 123, 3) := dk_180 0 123 (dk_at dksX3_undo_3 1 rfl rfl)
theorem dX3_undo_76 : decode cX3_undo 76 = .ok (.imul, 1) := dk_104 (dk_at dksX3_undo_3 4 rfl rfl)
theorem dX3_undo_77 : decode cX3_undo 77 = .ok (.iload_n 2, 1) := dk_28 (dk_at dksX3_undo_3 5 rfl rfl)
theorem dX3_undo_78 : decode cX3_undo 78 = .ok (.iadd, 1) := dk_96 (dk_at dksX3_undo_3 6 rfl rfl)
theorem dX3_undo_79 : decode cX3_undo 79 = .ok (.iaload, 1) := dk_46 (dk_at dksX3_undo_3 7 rfl rfl)
theorem dX3_undo_80 : decode cX3_undo 80 = .ok (.iastore, 1) := dk_79 (dk_at dksX3_undo_3 8 rfl rfl)
theorem dX3_undo_81 : decode cX3_undo 81 = .ok (.iinc 2 1, 3) := dk_132 2 1 (dk_at dksX3_undo_3 9 rfl rfl)
theorem dX3_undo_84 : decode cX3_undo 84 = .ok (.goto (-34), 3) := dk_167 255 222 (dk_at dksX3_undo_3 12 rfl rfl)
theorem dX3_undo_87 : decode cX3_undo 87 = .ok (.aload_n 0, 1) := dk_42 (dk_at dksX3_undo_3 15 rfl rfl)
theorem dX3_undo_88 : decode cX3_undo 88 = .ok (.iload_n 1, 1) := dk_27 (dk_at dksX3_undo_3 16 rfl rfl)
theorem dX3_undo_89 : decode cX3_undo 89 = .ok (.invokevirtual 138, 3) := dk_182 0 138 (dk_at dksX3_undo_3 17 rfl rfl)
theorem dX3_undo_92 : decode cX3_undo 92 = .ok (.ireturn, 1) := dk_172 (dk_at dksX3_undo_3 20 rfl rfl)
abbrev cX3_save : ByteArray := prog_22_method_75_code
def yX3_save : MethodName := ⟨RX3, "save", "()I"⟩
def dkwX3_save_3 : List UInt8 := [182, 0, 138, 172]
abbrev dktX3_save_3 : List UInt8 := dkwX3_save_3 ++ []
def dkwX3_save_2 : List UInt8 := [42, 180, 0, 36, 27, 42, 180, 0, 13, 27, 46, 79, 132, 1, 1, 167, 255, 236, 42, 42, 182, 1, 75]
abbrev dktX3_save_2 : List UInt8 := dkwX3_save_2 ++ dktX3_save_3
def dkwX3_save_1 : List UInt8 := [180, 0, 33, 27, 42, 180, 0, 7, 27, 46, 79, 132, 1, 1, 167, 255, 235, 3, 60, 27, 7, 162, 0, 21]
abbrev dktX3_save_1 : List UInt8 := dkwX3_save_1 ++ dktX3_save_2
def dkwX3_save_0 : List UInt8 := [42, 4, 181, 1, 69, 42, 42, 180, 0, 196, 181, 1, 72, 3, 60, 27, 16, 96, 162, 0, 21, 42]
abbrev dktX3_save_0 : List UInt8 := dkwX3_save_0 ++ dktX3_save_1
theorem dksX3_save_0 : cX3_save.data.toList.drop 0 = dktX3_save_0 := by decide +kernel
theorem dksX3_save_1 : cX3_save.data.toList.drop 22 = dktX3_save_1 := dk_seg dksX3_save_0 22 rfl rfl
theorem dksX3_save_2 : cX3_save.data.toList.drop 46 = dktX3_save_2 := dk_seg dksX3_save_1 24 rfl rfl
theorem dksX3_save_3 : cX3_save.data.toList.drop 69 = dktX3_save_3 := dk_seg dksX3_save_2 23 rfl rfl
theorem dX3_save_0 : decode cX3_save 0 = .ok (.aload_n 0, 1) := dk_42 (dk_at dksX3_save_0 0 rfl rfl)
theorem dX3_save_1 : decode cX3_save 1 = .ok (.iconst 1, 1) := dk_4 (dk_at dksX3_save_0 1 rfl rfl)
theorem dX3_save_2 : decode cX3_save 2 = .ok (.putfield 325, 3) := dk_181 1 69 (dk_at dksX3_save_0 2 rfl rfl)
theorem dX3_save_5 : decode cX3_save 5 = .ok (.aload_n 0, 1) := dk_42 (dk_at dksX3_save_0 5 rfl rfl)
theorem dX3_save_6 : decode cX3_save 6 = .ok (.aload_n 0, 1) := dk_42 (dk_at dksX3_save_0 6 rfl rfl)
theorem dX3_save_7 : decode cX3_save 7 = .ok (.getfield 196, 3) := dk_180 0 196 (dk_at dksX3_save_0 7 rfl rfl)
theorem dX3_save_10 : decode cX3_save 10 = .ok (.putfield 328, 3) := dk_181 1 72 (dk_at dksX3_save_0 10 rfl rfl)
theorem dX3_save_13 : decode cX3_save 13 = .ok (.iconst 0, 1) := dk_3 (dk_at dksX3_save_0 13 rfl rfl)
theorem dX3_save_14 : decode cX3_save 14 = .ok (.istore_n 1, 1) := dk_60 (dk_at dksX3_save_0 14 rfl rfl)
theorem dX3_save_15 : decode cX3_save 15 = .ok (.iload_n 1, 1) := dk_27 (dk_at dksX3_save_0 15 rfl rfl)
theorem dX3_save_16 : decode cX3_save 16 = .ok (.bipush 96, 2) := dk_16 96 (dk_at dksX3_save_0 16 rfl rfl)
theorem dX3_save_18 : decode cX3_save 18 = .ok (.if_icmp .ge 21, 3) := dk_162 0 21 (dk_at dksX3_save_0 18 rfl rfl)
theorem dX3_save_21 : decode cX3_save 21 = .ok (.aload_n 0, 1) := dk_42 (dk_at dksX3_save_0 21 rfl rfl)
theorem dX3_save_22 : decode cX3_save 22 = .ok (.getfield 33, 3) := dk_180 0 33 (dk_at dksX3_save_1 0 rfl rfl)
theorem dX3_save_25 : decode cX3_save 25 = .ok (.iload_n 1, 1) := dk_27 (dk_at dksX3_save_1 3 rfl rfl)
theorem dX3_save_26 : decode cX3_save 26 = .ok (.aload_n 0, 1) := dk_42 (dk_at dksX3_save_1 4 rfl rfl)
theorem dX3_save_27 : decode cX3_save 27 = .ok (.getfield 7, 3) := dk_180 0 7 (dk_at dksX3_save_1 5 rfl rfl)
theorem dX3_save_30 : decode cX3_save 30 = .ok (.iload_n 1, 1) := dk_27 (dk_at dksX3_save_1 8 rfl rfl)
theorem dX3_save_31 : decode cX3_save 31 = .ok (.iaload, 1) := dk_46 (dk_at dksX3_save_1 9 rfl rfl)
theorem dX3_save_32 : decode cX3_save 32 = .ok (.iastore, 1) := dk_79 (dk_at dksX3_save_1 10 rfl rfl)
theorem dX3_save_33 : decode cX3_save 33 = .ok (.iinc 1 1, 3) := dk_132 1 1 (dk_at dksX3_save_1 11 rfl rfl)
theorem dX3_save_36 : decode cX3_save 36 = .ok (.goto (-21), 3) := dk_167 255 235 (dk_at dksX3_save_1 14 rfl rfl)
theorem dX3_save_39 : decode cX3_save 39 = .ok (.iconst 0, 1) := dk_3 (dk_at dksX3_save_1 17 rfl rfl)
theorem dX3_save_40 : decode cX3_save 40 = .ok (.istore_n 1, 1) := dk_60 (dk_at dksX3_save_1 18 rfl rfl)
theorem dX3_save_41 : decode cX3_save 41 = .ok (.iload_n 1, 1) := dk_27 (dk_at dksX3_save_1 19 rfl rfl)
theorem dX3_save_42 : decode cX3_save 42 = .ok (.iconst 4, 1) := dk_7 (dk_at dksX3_save_1 20 rfl rfl)
theorem dX3_save_43 : decode cX3_save 43 = .ok (.if_icmp .ge 21, 3) := dk_162 0 21 (dk_at dksX3_save_1 21 rfl rfl)
theorem dX3_save_46 : decode cX3_save 46 = .ok (.aload_n 0, 1) := dk_42 (dk_at dksX3_save_2 0 rfl rfl)
theorem dX3_save_47 : decode cX3_save 47 = .ok (.getfield 36, 3) := dk_180 0 36 (dk_at dksX3_save_2 1 rfl rfl)
theorem dX3_save_50 : decode cX3_save 50 = .ok (.iload_n 1, 1) := dk_27 (dk_at dksX3_save_2 4 rfl rfl)
theorem dX3_save_51 : decode cX3_save 51 = .ok (.aload_n 0, 1) := dk_42 (dk_at dksX3_save_2 5 rfl rfl)
theorem dX3_save_52 : decode cX3_save 52 = .ok (.getfield 13, 3) := dk_180 0 13 (dk_at dksX3_save_2 6 rfl rfl)
theorem dX3_save_55 : decode cX3_save 55 = .ok (.iload_n 1, 1) := dk_27 (dk_at dksX3_save_2 9 rfl rfl)
theorem dX3_save_56 : decode cX3_save 56 = .ok (.iaload, 1) := dk_46 (dk_at dksX3_save_2 10 rfl rfl)
theorem dX3_save_57 : decode cX3_save 57 = .ok (.iastore, 1) := dk_79 (dk_at dksX3_save_2 11 rfl rfl)
theorem dX3_save_58 : decode cX3_save 58 = .ok (.iinc 1 1, 3) := dk_132 1 1 (dk_at dksX3_save_2 12 rfl rfl)
theorem dX3_save_61 : decode cX3_save 61 = .ok (.goto (-20), 3) := dk_167 255 236 (dk_at dksX3_save_2 15 rfl rfl)
theorem dX3_save_64 : decode cX3_save 64 = .ok (.aload_n 0, 1) := dk_42 (dk_at dksX3_save_2 18 rfl rfl)
theorem dX3_save_65 : decode cX3_save 65 = .ok (.aload_n 0, 1) := dk_42 (dk_at dksX3_save_2 19 rfl rfl)
theorem dX3_save_66 : decode cX3_save 66 = .ok (.invokevirtual 331, 3) := dk_182 1 75 (dk_at dksX3_save_2 20 rfl rfl)
theorem dX3_save_69 : decode cX3_save 69 = .ok (.invokevirtual 138, 3) := dk_182 0 138 (dk_at dksX3_save_3 0 rfl rfl)
theorem dX3_save_72 : decode cX3_save 72 = .ok (.ireturn, 1) := dk_172 (dk_at dksX3_save_3 3 rfl rfl)
abbrev cX3_all : ByteArray := prog_22_method_74_code
def yX3_all : MethodName := ⟨RX3, "all", "()I"⟩
def dkwX3_all_1 : List UInt8 := [27, 172]
abbrev dktX3_all_1 : List UInt8 := dkwX3_all_1 ++ []
def dkwX3_all_0 : List UInt8 := [3, 60, 3, 61, 28, 7, 162, 0, 18, 27, 42, 180, 0, 13, 28, 46, 96, 60, 132, 2, 1, 167, 255, 239]
abbrev dktX3_all_0 : List UInt8 := dkwX3_all_0 ++ dktX3_all_1
theorem dksX3_all_0 : cX3_all.data.toList.drop 0 = dktX3_all_0 := by decide +kernel
theorem dksX3_all_1 : cX3_all.data.toList.drop 24 = dktX3_all_1 := dk_seg dksX3_all_0 24 rfl rfl
theorem dX3_all_0 : decode cX3_all 0 = .ok (.iconst 0, 1) := dk_3 (dk_at dksX3_all_0 0 rfl rfl)
theorem dX3_all_1 : decode cX3_all 1 = .ok (.istore_n 1, 1) := dk_60 (dk_at dksX3_all_0 1 rfl rfl)
theorem dX3_all_2 : decode cX3_all 2 = .ok (.iconst 0, 1) := dk_3 (dk_at dksX3_all_0 2 rfl rfl)
theorem dX3_all_3 : decode cX3_all 3 = .ok (.istore_n 2, 1) := dk_61 (dk_at dksX3_all_0 3 rfl rfl)
theorem dX3_all_4 : decode cX3_all 4 = .ok (.iload_n 2, 1) := dk_28 (dk_at dksX3_all_0 4 rfl rfl)
theorem dX3_all_5 : decode cX3_all 5 = .ok (.iconst 4, 1) := dk_7 (dk_at dksX3_all_0 5 rfl rfl)
theorem dX3_all_6 : decode cX3_all 6 = .ok (.if_icmp .ge 18, 3) := dk_162 0 18 (dk_at dksX3_all_0 6 rfl rfl)
theorem dX3_all_9 : decode cX3_all 9 = .ok (.iload_n 1, 1) := dk_27 (dk_at dksX3_all_0 9 rfl rfl)
theorem dX3_all_10 : decode cX3_all 10 = .ok (.aload_n 0, 1) := dk_42 (dk_at dksX3_all_0 10 rfl rfl)
theorem dX3_all_11 : decode cX3_all 11 = .ok (.getfield 13, 3) := dk_180 0 13 (dk_at dksX3_all_0 11 rfl rfl)
theorem dX3_all_14 : decode cX3_all 14 = .ok (.iload_n 2, 1) := dk_28 (dk_at dksX3_all_0 14 rfl rfl)
theorem dX3_all_15 : decode cX3_all 15 = .ok (.iaload, 1) := dk_46 (dk_at dksX3_all_0 15 rfl rfl)
theorem dX3_all_16 : decode cX3_all 16 = .ok (.iadd, 1) := dk_96 (dk_at dksX3_all_0 16 rfl rfl)
theorem dX3_all_17 : decode cX3_all 17 = .ok (.istore_n 1, 1) := dk_60 (dk_at dksX3_all_0 17 rfl rfl)
theorem dX3_all_18 : decode cX3_all 18 = .ok (.iinc 2 1, 3) := dk_132 2 1 (dk_at dksX3_all_0 18 rfl rfl)
theorem dX3_all_21 : decode cX3_all 21 = .ok (.goto (-17), 3) := dk_167 255 239 (dk_at dksX3_all_0 21 rfl rfl)
theorem dX3_all_24 : decode cX3_all 24 = .ok (.iload_n 1, 1) := dk_27 (dk_at dksX3_all_1 0 rfl rfl)
theorem dX3_all_25 : decode cX3_all 25 = .ok (.ireturn, 1) := dk_172 (dk_at dksX3_all_1 1 rfl rfl)
abbrev cX3_restore : ByteArray := prog_22_method_76_code
def yX3_restore : MethodName := ⟨RX3, "restore", "()I"⟩
def dkwX3_restore_3 : List UInt8 := [42, 3, 181, 0, 123, 42, 42, 182, 1, 75, 182, 0, 138, 172]
abbrev dktX3_restore_3 : List UInt8 := dkwX3_restore_3 ++ []
def dkwX3_restore_2 : List UInt8 := [60, 27, 7, 162, 0, 21, 42, 180, 0, 13, 27, 42, 180, 0, 36, 27, 46, 79, 132, 1, 1, 167, 255, 236]
abbrev dktX3_restore_2 : List UInt8 := dkwX3_restore_2 ++ dktX3_restore_3
def dkwX3_restore_1 : List UInt8 := [16, 96, 162, 0, 21, 42, 180, 0, 7, 27, 42, 180, 0, 33, 27, 46, 79, 132, 1, 1, 167, 255, 235, 3]
abbrev dktX3_restore_1 : List UInt8 := dkwX3_restore_1 ++ dktX3_restore_2
def dkwX3_restore_0 : List UInt8 := [42, 180, 1, 69, 154, 0, 9, 42, 4, 182, 0, 130, 172, 42, 42, 180, 1, 72, 181, 0, 196, 3, 60, 27]
abbrev dktX3_restore_0 : List UInt8 := dkwX3_restore_0 ++ dktX3_restore_1
theorem dksX3_restore_0 : cX3_restore.data.toList.drop 0 = dktX3_restore_0 := by decide +kernel
theorem dksX3_restore_1 : cX3_restore.data.toList.drop 24 = dktX3_restore_1 := dk_seg dksX3_restore_0 24 rfl rfl
theorem dksX3_restore_2 : cX3_restore.data.toList.drop 48 = dktX3_restore_2 := dk_seg dksX3_restore_1 24 rfl rfl
theorem dksX3_restore_3 : cX3_restore.data.toList.drop 72 = dktX3_restore_3 := dk_seg dksX3_restore_2 24 rfl rfl
theorem dX3_restore_0 : decode cX3_restore 0 = .ok (.aload_n 0, 1) := dk_42 (dk_at dksX3_restore_0 0 rfl rfl)
theorem dX3_restore_1 : decode cX3_restore 1 = .ok (.getfield 325, 3) := dk_180 1 69 (dk_at dksX3_restore_0 1 rfl rfl)
theorem dX3_restore_4 : decode cX3_restore 4 = .ok (.ifCond .ne 9, 3) := dk_154 0 9 (dk_at dksX3_restore_0 4 rfl rfl)
theorem dX3_restore_7 : decode cX3_restore 7 = .ok (.aload_n 0, 1) := dk_42 (dk_at dksX3_restore_0 7 rfl rfl)
theorem dX3_restore_8 : decode cX3_restore 8 = .ok (.iconst 1, 1) := dk_4 (dk_at dksX3_restore_0 8 rfl rfl)
theorem dX3_restore_9 : decode cX3_restore 9 = .ok (.invokevirtual 130, 3) := dk_182 0 130 (dk_at dksX3_restore_0 9 rfl rfl)
theorem dX3_restore_12 : decode cX3_restore 12 = .ok (.ireturn, 1) := dk_172 (dk_at dksX3_restore_0 12 rfl rfl)
theorem dX3_restore_13 : decode cX3_restore 13 = .ok (.aload_n 0, 1) := dk_42 (dk_at dksX3_restore_0 13 rfl rfl)
theorem dX3_restore_14 : decode cX3_restore 14 = .ok (.aload_n 0, 1) := dk_42 (dk_at dksX3_restore_0 14 rfl rfl)
theorem dX3_restore_15 : decode cX3_restore 15 = .ok (.getfield 328, 3) := dk_180 1 72 (dk_at dksX3_restore_0 15 rfl rfl)
theorem dX3_restore_18 : decode cX3_restore 18 = .ok (.putfield 196, 3) := dk_181 0 196 (dk_at dksX3_restore_0 18 rfl rfl)
theorem dX3_restore_21 : decode cX3_restore 21 = .ok (.iconst 0, 1) := dk_3 (dk_at dksX3_restore_0 21 rfl rfl)
theorem dX3_restore_22 : decode cX3_restore 22 = .ok (.istore_n 1, 1) := dk_60 (dk_at dksX3_restore_0 22 rfl rfl)
theorem dX3_restore_23 : decode cX3_restore 23 = .ok (.iload_n 1, 1) := dk_27 (dk_at dksX3_restore_0 23 rfl rfl)
theorem dX3_restore_24 : decode cX3_restore 24 = .ok (.bipush 96, 2) := dk_16 96 (dk_at dksX3_restore_1 0 rfl rfl)
theorem dX3_restore_26 : decode cX3_restore 26 = .ok (.if_icmp .ge 21, 3) := dk_162 0 21 (dk_at dksX3_restore_1 2 rfl rfl)
theorem dX3_restore_29 : decode cX3_restore 29 = .ok (.aload_n 0, 1) := dk_42 (dk_at dksX3_restore_1 5 rfl rfl)
theorem dX3_restore_30 : decode cX3_restore 30 = .ok (.getfield 7, 3) := dk_180 0 7 (dk_at dksX3_restore_1 6 rfl rfl)
theorem dX3_restore_33 : decode cX3_restore 33 = .ok (.iload_n 1, 1) := dk_27 (dk_at dksX3_restore_1 9 rfl rfl)
theorem dX3_restore_34 : decode cX3_restore 34 = .ok (.aload_n 0, 1) := dk_42 (dk_at dksX3_restore_1 10 rfl rfl)
theorem dX3_restore_35 : decode cX3_restore 35 = .ok (.getfield 33, 3) := dk_180 0 33 (dk_at dksX3_restore_1 11 rfl rfl)
theorem dX3_restore_38 : decode cX3_restore 38 = .ok (.iload_n 1, 1) := dk_27 (dk_at dksX3_restore_1 14 rfl rfl)
theorem dX3_restore_39 : decode cX3_restore 39 = .ok (.iaload, 1) := dk_46 (dk_at dksX3_restore_1 15 rfl rfl)
theorem dX3_restore_40 : decode cX3_restore 40 = .ok (.iastore, 1) := dk_79 (dk_at dksX3_restore_1 16 rfl rfl)
theorem dX3_restore_41 : decode cX3_restore 41 = .ok (.iinc 1 1, 3) := dk_132 1 1 (dk_at dksX3_restore_1 17 rfl rfl)
theorem dX3_restore_44 : decode cX3_restore 44 = .ok (.goto (-21), 3) := dk_167 255 235 (dk_at dksX3_restore_1 20 rfl rfl)
theorem dX3_restore_47 : decode cX3_restore 47 = .ok (.iconst 0, 1) := dk_3 (dk_at dksX3_restore_1 23 rfl rfl)
theorem dX3_restore_48 : decode cX3_restore 48 = .ok (.istore_n 1, 1) := dk_60 (dk_at dksX3_restore_2 0 rfl rfl)
theorem dX3_restore_49 : decode cX3_restore 49 = .ok (.iload_n 1, 1) := dk_27 (dk_at dksX3_restore_2 1 rfl rfl)
theorem dX3_restore_50 : decode cX3_restore 50 = .ok (.iconst 4, 1) := dk_7 (dk_at dksX3_restore_2 2 rfl rfl)
theorem dX3_restore_51 : decode cX3_restore 51 = .ok (.if_icmp .ge 21, 3) := dk_162 0 21 (dk_at dksX3_restore_2 3 rfl rfl)
theorem dX3_restore_54 : decode cX3_restore 54 = .ok (.aload_n 0, 1) := dk_42 (dk_at dksX3_restore_2 6 rfl rfl)
theorem dX3_restore_55 : decode cX3_restore 55 = .ok (.getfield 13, 3) := dk_180 0 13 (dk_at dksX3_restore_2 7 rfl rfl)
theorem dX3_restore_58 : decode cX3_restore 58 = .ok (.iload_n 1, 1) := dk_27 (dk_at dksX3_restore_2 10 rfl rfl)
theorem dX3_restore_59 : decode cX3_restore 59 = .ok (.aload_n 0, 1) := dk_42 (dk_at dksX3_restore_2 11 rfl rfl)
theorem dX3_restore_60 : decode cX3_restore 60 = .ok (.getfield 36, 3) := dk_180 0 36 (dk_at dksX3_restore_2 12 rfl rfl)
theorem dX3_restore_63 : decode cX3_restore 63 = .ok (.iload_n 1, 1) := dk_27 (dk_at dksX3_restore_2 15 rfl rfl)
theorem dX3_restore_64 : decode cX3_restore 64 = .ok (.iaload, 1) := dk_46 (dk_at dksX3_restore_2 16 rfl rfl)
theorem dX3_restore_65 : decode cX3_restore 65 = .ok (.iastore, 1) := dk_79 (dk_at dksX3_restore_2 17 rfl rfl)
theorem dX3_restore_66 : decode cX3_restore 66 = .ok (.iinc 1 1, 3) := dk_132 1 1 (dk_at dksX3_restore_2 18 rfl rfl)
theorem dX3_restore_69 : decode cX3_restore 69 = .ok (.goto (-20), 3) := dk_167 255 236 (dk_at dksX3_restore_2 21 rfl rfl)
theorem dX3_restore_72 : decode cX3_restore 72 = .ok (.aload_n 0, 1) := dk_42 (dk_at dksX3_restore_3 0 rfl rfl)
theorem dX3_restore_73 : decode cX3_restore 73 = .ok (.iconst 0, 1) := dk_3 (dk_at dksX3_restore_3 1 rfl rfl)
theorem dX3_restore_74 : decode cX3_restore 74 = .ok (.putfield 123, 3) := dk_181 0 123 (dk_at dksX3_restore_3 2 rfl rfl)
theorem dX3_restore_77 : decode cX3_restore 77 = .ok (.aload_n 0, 1) := dk_42 (dk_at dksX3_restore_3 5 rfl rfl)
theorem dX3_restore_78 : decode cX3_restore 78 = .ok (.aload_n 0, 1) := dk_42 (dk_at dksX3_restore_3 6 rfl rfl)
theorem dX3_restore_79 : decode cX3_restore 79 = .ok (.invokevirtual 331, 3) := dk_182 1 75 (dk_at dksX3_restore_3 7 rfl rfl)
theorem dX3_restore_82 : decode cX3_restore 82 = .ok (.invokevirtual 138, 3) := dk_182 0 138 (dk_at dksX3_restore_3 10 rfl rfl)
theorem dX3_restore_85 : decode cX3_restore 85 = .ok (.ireturn, 1) := dk_172 (dk_at dksX3_restore_3 13 rfl rfl)
theorem q108 : (Jvm.Cond.initialized "MergeWorkbenchModel") ∈ lw_all := lw_g (lw_at lw_m1 25 rfl) rfl
theorem q313 : (Jvm.Cond.selects "MergeWorkbenchModel" ({ cls := "java/lang/Object", name := "getClass", desc := "()Ljava/lang/Class;" } : Jvm.MethodName) ({ cls := "java/lang/Object", name := "getClass", desc := "()Ljava/lang/Class;" } : Jvm.MethodName)) ∈ lw_all := lw_g (lw_at lw_m1 230 rfl) rfl
theorem q1481 : (Jvm.Cond.selects "MergeWorkbenchModel" ({ cls := "java/lang/Object", name := "equals", desc := "(Ljava/lang/Object;)Z" } : Jvm.MethodName) ({ cls := "java/lang/Object", name := "equals", desc := "(Ljava/lang/Object;)Z" } : Jvm.MethodName)) ∈ lw_all := lw_g (lw_at lw_m6 198 rfl) rfl
theorem q3369 : (Jvm.Cond.instantiable "MergeWorkbenchModel" (61 : Nat)) ∈ lw_all := lw_g (lw_at lw_m14 166 rfl) rfl
theorem q3371 : (Jvm.Cond.instanceMethod ({ cls := "MergeWorkbenchModel", name := "<init>", desc := "()V" } : Jvm.MethodName)) ∈ lw_all := lw_g (lw_at lw_m14 168 rfl) rfl
theorem q3372 : (Jvm.Cond.code ({ cls := "MergeWorkbenchModel", name := "<init>", desc := "()V" } : Jvm.MethodName) prog_22_method_1_code (1 : Nat) (Option.none : Option Jvm.ClassFile.FieldType)) ∈ lw_all := lw_g (lw_at lw_m14 169 rfl) rfl
theorem q3373 : (Jvm.Cond.methodLink "MergeWorkbenchModel" (1 : Nat) ({ cls := "java/lang/Object", name := "<init>", desc := "()V" } : Jvm.MethodName)) ∈ lw_all := lw_g (lw_at lw_m14 170 rfl) rfl
theorem q3374 : (Jvm.Cond.fieldLink "MergeWorkbenchModel" (115 : Nat) "MergeWorkbenchModel" "thrown" "I") ∈ lw_all := lw_g (lw_at lw_m14 171 rfl) rfl
theorem q3375 : (Jvm.Cond.fieldLink "MergeWorkbenchModel" (7 : Nat) "MergeWorkbenchModel" "docs" "[I") ∈ lw_all := lw_g (lw_at lw_m14 172 rfl) rfl
theorem q3376 : (Jvm.Cond.fieldLink "MergeWorkbenchModel" (13 : Nat) "MergeWorkbenchModel" "sizes" "[I") ∈ lw_all := lw_g (lw_at lw_m14 173 rfl) rfl
theorem q3377 : (Jvm.Cond.fieldLink "MergeWorkbenchModel" (196 : Nat) "MergeWorkbenchModel" "mode" "I") ∈ lw_all := lw_g (lw_at lw_m14 174 rfl) rfl
theorem q3378 : (Jvm.Cond.fieldLink "MergeWorkbenchModel" (16 : Nat) "MergeWorkbenchModel" "shrinks" "Z") ∈ lw_all := lw_g (lw_at lw_m14 175 rfl) rfl
theorem q3379 : (Jvm.Cond.fieldLink "MergeWorkbenchModel" (20 : Nat) "MergeWorkbenchModel" "tape" "[C") ∈ lw_all := lw_g (lw_at lw_m14 176 rfl) rfl
theorem q3380 : (Jvm.Cond.fieldLink "MergeWorkbenchModel" (155 : Nat) "MergeWorkbenchModel" "taped" "I") ∈ lw_all := lw_g (lw_at lw_m14 177 rfl) rfl
theorem q3381 : (Jvm.Cond.fieldLink "MergeWorkbenchModel" (24 : Nat) "MergeWorkbenchModel" "keptRegister" "[I") ∈ lw_all := lw_g (lw_at lw_m14 178 rfl) rfl
theorem q3382 : (Jvm.Cond.fieldLink "MergeWorkbenchModel" (27 : Nat) "MergeWorkbenchModel" "keptSize" "[I") ∈ lw_all := lw_g (lw_at lw_m14 179 rfl) rfl
theorem q3383 : (Jvm.Cond.fieldLink "MergeWorkbenchModel" (30 : Nat) "MergeWorkbenchModel" "keptLines" "[I") ∈ lw_all := lw_g (lw_at lw_m14 180 rfl) rfl
theorem q3384 : (Jvm.Cond.fieldLink "MergeWorkbenchModel" (123 : Nat) "MergeWorkbenchModel" "keptMany" "I") ∈ lw_all := lw_g (lw_at lw_m14 181 rfl) rfl
theorem q3385 : (Jvm.Cond.fieldLink "MergeWorkbenchModel" (325 : Nat) "MergeWorkbenchModel" "hasSaved" "Z") ∈ lw_all := lw_g (lw_at lw_m14 182 rfl) rfl
theorem q3386 : (Jvm.Cond.fieldLink "MergeWorkbenchModel" (33 : Nat) "MergeWorkbenchModel" "savedDocs" "[I") ∈ lw_all := lw_g (lw_at lw_m14 183 rfl) rfl
theorem q3387 : (Jvm.Cond.fieldLink "MergeWorkbenchModel" (36 : Nat) "MergeWorkbenchModel" "savedSizes" "[I") ∈ lw_all := lw_g (lw_at lw_m14 184 rfl) rfl
theorem q3388 : (Jvm.Cond.fieldLink "MergeWorkbenchModel" (328 : Nat) "MergeWorkbenchModel" "savedMode" "I") ∈ lw_all := lw_g (lw_at lw_m14 185 rfl) rfl
theorem q3389 : (Jvm.Cond.fieldLink "MergeWorkbenchModel" (39 : Nat) "MergeWorkbenchModel" "work" "[I") ∈ lw_all := lw_g (lw_at lw_m14 186 rfl) rfl
theorem q3390 : (Jvm.Cond.fieldLink "MergeWorkbenchModel" (152 : Nat) "MergeWorkbenchModel" "at" "I") ∈ lw_all := lw_g (lw_at lw_m14 187 rfl) rfl
theorem q3391 : (Jvm.Cond.fieldLink "MergeWorkbenchModel" (168 : Nat) "MergeWorkbenchModel" "opened" "I") ∈ lw_all := lw_g (lw_at lw_m14 188 rfl) rfl
theorem q3392 : (Jvm.Cond.fieldLink "MergeWorkbenchModel" (158 : Nat) "MergeWorkbenchModel" "out" "I") ∈ lw_all := lw_g (lw_at lw_m14 189 rfl) rfl
theorem q3393 : (Jvm.Cond.fieldLink "MergeWorkbenchModel" (42 : Nat) "MergeWorkbenchModel" "longest" "[I") ∈ lw_all := lw_g (lw_at lw_m14 190 rfl) rfl
theorem q3394 : (Jvm.Cond.fieldLink "MergeWorkbenchModel" (45 : Nat) "MergeWorkbenchModel" "mates" "[I") ∈ lw_all := lw_g (lw_at lw_m14 191 rfl) rfl
theorem q3395 : (Jvm.Cond.fieldLink "MergeWorkbenchModel" (48 : Nat) "MergeWorkbenchModel" "chains" "[I") ∈ lw_all := lw_g (lw_at lw_m14 192 rfl) rfl
theorem q3396 : (Jvm.Cond.fieldLink "MergeWorkbenchModel" (193 : Nat) "MergeWorkbenchModel" "anchorMany" "I") ∈ lw_all := lw_g (lw_at lw_m14 193 rfl) rfl
theorem q3397 : (Jvm.Cond.fieldLink "MergeWorkbenchModel" (51 : Nat) "MergeWorkbenchModel" "rowA" "[I") ∈ lw_all := lw_g (lw_at lw_m14 194 rfl) rfl
theorem q3398 : (Jvm.Cond.fieldLink "MergeWorkbenchModel" (54 : Nat) "MergeWorkbenchModel" "rowB" "[I") ∈ lw_all := lw_g (lw_at lw_m14 195 rfl) rfl
theorem q3399 : (Jvm.Cond.fieldLink "MergeWorkbenchModel" (220 : Nat) "MergeWorkbenchModel" "hasCompared" "Z") ∈ lw_all := lw_g (lw_at lw_m14 196 rfl) rfl
theorem q3400 : (Jvm.Cond.fieldLink "MergeWorkbenchModel" (57 : Nat) "MergeWorkbenchModel" "a0" "[I") ∈ lw_all := lw_g (lw_at lw_m14 197 rfl) rfl
theorem q3401 : (Jvm.Cond.fieldLink "MergeWorkbenchModel" (214 : Nat) "MergeWorkbenchModel" "aSize" "I") ∈ lw_all := lw_g (lw_at lw_m14 198 rfl) rfl
theorem q3402 : (Jvm.Cond.fieldLink "MergeWorkbenchModel" (60 : Nat) "MergeWorkbenchModel" "b0" "[I") ∈ lw_all := lw_g (lw_at lw_m14 199 rfl) rfl
theorem q3403 : (Jvm.Cond.fieldLink "MergeWorkbenchModel" (217 : Nat) "MergeWorkbenchModel" "bSize" "I") ∈ lw_all := lw_g (lw_at lw_m14 200 rfl) rfl
theorem q3404 : (Jvm.Cond.fieldLink "MergeWorkbenchModel" (63 : Nat) "MergeWorkbenchModel" "partner" "[I") ∈ lw_all := lw_g (lw_at lw_m14 201 rfl) rfl
theorem q3405 : (Jvm.Cond.fieldLink "MergeWorkbenchModel" (227 : Nat) "MergeWorkbenchModel" "comparedAnchors" "I") ∈ lw_all := lw_g (lw_at lw_m14 202 rfl) rfl
theorem q3406 : (Jvm.Cond.fieldLink "MergeWorkbenchModel" (66 : Nat) "MergeWorkbenchModel" "moves" "[I") ∈ lw_all := lw_g (lw_at lw_m14 203 rfl) rfl
theorem q3407 : (Jvm.Cond.fieldLink "MergeWorkbenchModel" (230 : Nat) "MergeWorkbenchModel" "moveMany" "I") ∈ lw_all := lw_g (lw_at lw_m14 204 rfl) rfl
theorem q3408 : (Jvm.Cond.fieldLink "MergeWorkbenchModel" (69 : Nat) "MergeWorkbenchModel" "parts" "[I") ∈ lw_all := lw_g (lw_at lw_m14 205 rfl) rfl
theorem q3409 : (Jvm.Cond.fieldLink "MergeWorkbenchModel" (211 : Nat) "MergeWorkbenchModel" "partMany" "I") ∈ lw_all := lw_g (lw_at lw_m14 206 rfl) rfl
theorem q3410 : (Jvm.Cond.fieldLink "MergeWorkbenchModel" (72 : Nat) "MergeWorkbenchModel" "usedA" "[Z") ∈ lw_all := lw_g (lw_at lw_m14 207 rfl) rfl
theorem q3411 : (Jvm.Cond.fieldLink "MergeWorkbenchModel" (76 : Nat) "MergeWorkbenchModel" "usedB" "[Z") ∈ lw_all := lw_g (lw_at lw_m14 208 rfl) rfl
theorem q3412 : (Jvm.Cond.fieldLink "MergeWorkbenchModel" (264 : Nat) "MergeWorkbenchModel" "hasMerged" "Z") ∈ lw_all := lw_g (lw_at lw_m14 209 rfl) rfl
theorem q3413 : (Jvm.Cond.fieldLink "MergeWorkbenchModel" (79 : Nat) "MergeWorkbenchModel" "base" "[I") ∈ lw_all := lw_g (lw_at lw_m14 210 rfl) rfl
theorem q3414 : (Jvm.Cond.fieldLink "MergeWorkbenchModel" (267 : Nat) "MergeWorkbenchModel" "baseSize" "I") ∈ lw_all := lw_g (lw_at lw_m14 211 rfl) rfl
theorem q3415 : (Jvm.Cond.fieldLink "MergeWorkbenchModel" (82 : Nat) "MergeWorkbenchModel" "left" "[I") ∈ lw_all := lw_g (lw_at lw_m14 212 rfl) rfl
theorem q3416 : (Jvm.Cond.fieldLink "MergeWorkbenchModel" (270 : Nat) "MergeWorkbenchModel" "leftSize" "I") ∈ lw_all := lw_g (lw_at lw_m14 213 rfl) rfl
theorem q3417 : (Jvm.Cond.fieldLink "MergeWorkbenchModel" (85 : Nat) "MergeWorkbenchModel" "right" "[I") ∈ lw_all := lw_g (lw_at lw_m14 214 rfl) rfl
theorem q3418 : (Jvm.Cond.fieldLink "MergeWorkbenchModel" (273 : Nat) "MergeWorkbenchModel" "rightSize" "I") ∈ lw_all := lw_g (lw_at lw_m14 215 rfl) rfl
theorem q3419 : (Jvm.Cond.fieldLink "MergeWorkbenchModel" (88 : Nat) "MergeWorkbenchModel" "toLeft" "[I") ∈ lw_all := lw_g (lw_at lw_m14 216 rfl) rfl
theorem q3420 : (Jvm.Cond.fieldLink "MergeWorkbenchModel" (91 : Nat) "MergeWorkbenchModel" "toRight" "[I") ∈ lw_all := lw_g (lw_at lw_m14 217 rfl) rfl
theorem q3421 : (Jvm.Cond.fieldLink "MergeWorkbenchModel" (94 : Nat) "MergeWorkbenchModel" "chunks" "[I") ∈ lw_all := lw_g (lw_at lw_m14 218 rfl) rfl
theorem q3422 : (Jvm.Cond.fieldLink "MergeWorkbenchModel" (246 : Nat) "MergeWorkbenchModel" "chunkMany" "I") ∈ lw_all := lw_g (lw_at lw_m14 219 rfl) rfl
theorem q3423 : (Jvm.Cond.fieldLink "MergeWorkbenchModel" (97 : Nat) "MergeWorkbenchModel" "choices" "[I") ∈ lw_all := lw_g (lw_at lw_m14 220 rfl) rfl
theorem q3424 : (Jvm.Cond.fieldLink "MergeWorkbenchModel" (249 : Nat) "MergeWorkbenchModel" "conflictMany" "I") ∈ lw_all := lw_g (lw_at lw_m14 221 rfl) rfl
theorem q3425 : (Jvm.Cond.fieldLink "MergeWorkbenchModel" (296 : Nat) "MergeWorkbenchModel" "hasPatch" "Z") ∈ lw_all := lw_g (lw_at lw_m14 222 rfl) rfl
theorem q3426 : (Jvm.Cond.fieldLink "MergeWorkbenchModel" (100 : Nat) "MergeWorkbenchModel" "hunks" "[I") ∈ lw_all := lw_g (lw_at lw_m14 223 rfl) rfl
theorem q3427 : (Jvm.Cond.fieldLink "MergeWorkbenchModel" (302 : Nat) "MergeWorkbenchModel" "hunkMany" "I") ∈ lw_all := lw_g (lw_at lw_m14 224 rfl) rfl
theorem q3428 : (Jvm.Cond.fieldLink "MergeWorkbenchModel" (103 : Nat) "MergeWorkbenchModel" "oldLines" "[I") ∈ lw_all := lw_g (lw_at lw_m14 225 rfl) rfl
theorem q3429 : (Jvm.Cond.fieldLink "MergeWorkbenchModel" (106 : Nat) "MergeWorkbenchModel" "newLines" "[I") ∈ lw_all := lw_g (lw_at lw_m14 226 rfl) rfl
theorem q3430 : (Jvm.Cond.fieldLink "MergeWorkbenchModel" (299 : Nat) "MergeWorkbenchModel" "hasOutcome" "Z") ∈ lw_all := lw_g (lw_at lw_m14 227 rfl) rfl
theorem q3431 : (Jvm.Cond.fieldLink "MergeWorkbenchModel" (109 : Nat) "MergeWorkbenchModel" "outcomes" "[I") ∈ lw_all := lw_g (lw_at lw_m14 228 rfl) rfl
theorem q3432 : (Jvm.Cond.fieldLink "MergeWorkbenchModel" (308 : Nat) "MergeWorkbenchModel" "free" "I") ∈ lw_all := lw_g (lw_at lw_m14 229 rfl) rfl
theorem q3433 : (Jvm.Cond.fieldLink "MergeWorkbenchModel" (311 : Nat) "MergeWorkbenchModel" "shift" "I") ∈ lw_all := lw_g (lw_at lw_m14 230 rfl) rfl
theorem q3434 : (Jvm.Cond.fieldLink "MergeWorkbenchModel" (112 : Nat) "MergeWorkbenchModel" "came" "[I") ∈ lw_all := lw_g (lw_at lw_m14 231 rfl) rfl
theorem q3435 : (Jvm.Cond.lays "MergeWorkbenchModel" "MergeWorkbenchModel" "thrown" "I") ∈ lw_all := lw_g (lw_at lw_m14 232 rfl) rfl
theorem q3436 : (Jvm.Cond.soleField "MergeWorkbenchModel" "thrown") ∈ lw_all := lw_g (lw_at lw_m14 233 rfl) rfl
theorem q3437 : (Jvm.Cond.laysFinal "MergeWorkbenchModel" "MergeWorkbenchModel" "docs" "[I") ∈ lw_all := lw_g (lw_at lw_m14 234 rfl) rfl
theorem q3438 : (Jvm.Cond.soleField "MergeWorkbenchModel" "docs") ∈ lw_all := lw_g (lw_at lw_m14 235 rfl) rfl
theorem q3439 : (Jvm.Cond.laysFinal "MergeWorkbenchModel" "MergeWorkbenchModel" "sizes" "[I") ∈ lw_all := lw_g (lw_at lw_m14 236 rfl) rfl
theorem q3440 : (Jvm.Cond.soleField "MergeWorkbenchModel" "sizes") ∈ lw_all := lw_g (lw_at lw_m14 237 rfl) rfl
theorem q3441 : (Jvm.Cond.lays "MergeWorkbenchModel" "MergeWorkbenchModel" "mode" "I") ∈ lw_all := lw_g (lw_at lw_m14 238 rfl) rfl
theorem q3442 : (Jvm.Cond.soleField "MergeWorkbenchModel" "mode") ∈ lw_all := lw_g (lw_at lw_m14 239 rfl) rfl
theorem q3443 : (Jvm.Cond.lays "MergeWorkbenchModel" "MergeWorkbenchModel" "shrinks" "Z") ∈ lw_all := lw_g (lw_at lw_m15 0 rfl) rfl
theorem q3444 : (Jvm.Cond.soleField "MergeWorkbenchModel" "shrinks") ∈ lw_all := lw_g (lw_at lw_m15 1 rfl) rfl
theorem q3445 : (Jvm.Cond.laysFinal "MergeWorkbenchModel" "MergeWorkbenchModel" "tape" "[C") ∈ lw_all := lw_g (lw_at lw_m15 2 rfl) rfl
theorem q3446 : (Jvm.Cond.soleField "MergeWorkbenchModel" "tape") ∈ lw_all := lw_g (lw_at lw_m15 3 rfl) rfl
theorem q3447 : (Jvm.Cond.lays "MergeWorkbenchModel" "MergeWorkbenchModel" "taped" "I") ∈ lw_all := lw_g (lw_at lw_m15 4 rfl) rfl
theorem q3448 : (Jvm.Cond.soleField "MergeWorkbenchModel" "taped") ∈ lw_all := lw_g (lw_at lw_m15 5 rfl) rfl
theorem q3449 : (Jvm.Cond.laysFinal "MergeWorkbenchModel" "MergeWorkbenchModel" "keptRegister" "[I") ∈ lw_all := lw_g (lw_at lw_m15 6 rfl) rfl
theorem q3450 : (Jvm.Cond.soleField "MergeWorkbenchModel" "keptRegister") ∈ lw_all := lw_g (lw_at lw_m15 7 rfl) rfl
theorem q3451 : (Jvm.Cond.laysFinal "MergeWorkbenchModel" "MergeWorkbenchModel" "keptSize" "[I") ∈ lw_all := lw_g (lw_at lw_m15 8 rfl) rfl
theorem q3452 : (Jvm.Cond.soleField "MergeWorkbenchModel" "keptSize") ∈ lw_all := lw_g (lw_at lw_m15 9 rfl) rfl
theorem q3453 : (Jvm.Cond.laysFinal "MergeWorkbenchModel" "MergeWorkbenchModel" "keptLines" "[I") ∈ lw_all := lw_g (lw_at lw_m15 10 rfl) rfl
theorem q3454 : (Jvm.Cond.soleField "MergeWorkbenchModel" "keptLines") ∈ lw_all := lw_g (lw_at lw_m15 11 rfl) rfl
theorem q3455 : (Jvm.Cond.lays "MergeWorkbenchModel" "MergeWorkbenchModel" "keptMany" "I") ∈ lw_all := lw_g (lw_at lw_m15 12 rfl) rfl
theorem q3456 : (Jvm.Cond.soleField "MergeWorkbenchModel" "keptMany") ∈ lw_all := lw_g (lw_at lw_m15 13 rfl) rfl
theorem q3457 : (Jvm.Cond.lays "MergeWorkbenchModel" "MergeWorkbenchModel" "hasSaved" "Z") ∈ lw_all := lw_g (lw_at lw_m15 14 rfl) rfl
theorem q3458 : (Jvm.Cond.soleField "MergeWorkbenchModel" "hasSaved") ∈ lw_all := lw_g (lw_at lw_m15 15 rfl) rfl
theorem q3459 : (Jvm.Cond.laysFinal "MergeWorkbenchModel" "MergeWorkbenchModel" "savedDocs" "[I") ∈ lw_all := lw_g (lw_at lw_m15 16 rfl) rfl
theorem q3460 : (Jvm.Cond.soleField "MergeWorkbenchModel" "savedDocs") ∈ lw_all := lw_g (lw_at lw_m15 17 rfl) rfl
theorem q3461 : (Jvm.Cond.laysFinal "MergeWorkbenchModel" "MergeWorkbenchModel" "savedSizes" "[I") ∈ lw_all := lw_g (lw_at lw_m15 18 rfl) rfl
theorem q3462 : (Jvm.Cond.soleField "MergeWorkbenchModel" "savedSizes") ∈ lw_all := lw_g (lw_at lw_m15 19 rfl) rfl
theorem q3463 : (Jvm.Cond.lays "MergeWorkbenchModel" "MergeWorkbenchModel" "savedMode" "I") ∈ lw_all := lw_g (lw_at lw_m15 20 rfl) rfl
theorem q3464 : (Jvm.Cond.soleField "MergeWorkbenchModel" "savedMode") ∈ lw_all := lw_g (lw_at lw_m15 21 rfl) rfl
theorem q3465 : (Jvm.Cond.laysFinal "MergeWorkbenchModel" "MergeWorkbenchModel" "work" "[I") ∈ lw_all := lw_g (lw_at lw_m15 22 rfl) rfl
theorem q3466 : (Jvm.Cond.soleField "MergeWorkbenchModel" "work") ∈ lw_all := lw_g (lw_at lw_m15 23 rfl) rfl
theorem q3467 : (Jvm.Cond.lays "MergeWorkbenchModel" "MergeWorkbenchModel" "at" "I") ∈ lw_all := lw_g (lw_at lw_m15 24 rfl) rfl
theorem q3468 : (Jvm.Cond.soleField "MergeWorkbenchModel" "at") ∈ lw_all := lw_g (lw_at lw_m15 25 rfl) rfl
theorem q3469 : (Jvm.Cond.lays "MergeWorkbenchModel" "MergeWorkbenchModel" "opened" "I") ∈ lw_all := lw_g (lw_at lw_m15 26 rfl) rfl
theorem q3470 : (Jvm.Cond.soleField "MergeWorkbenchModel" "opened") ∈ lw_all := lw_g (lw_at lw_m15 27 rfl) rfl
theorem q3471 : (Jvm.Cond.lays "MergeWorkbenchModel" "MergeWorkbenchModel" "out" "I") ∈ lw_all := lw_g (lw_at lw_m15 28 rfl) rfl
theorem q3472 : (Jvm.Cond.soleField "MergeWorkbenchModel" "out") ∈ lw_all := lw_g (lw_at lw_m15 29 rfl) rfl
theorem q3473 : (Jvm.Cond.laysFinal "MergeWorkbenchModel" "MergeWorkbenchModel" "longest" "[I") ∈ lw_all := lw_g (lw_at lw_m15 30 rfl) rfl
theorem q3474 : (Jvm.Cond.soleField "MergeWorkbenchModel" "longest") ∈ lw_all := lw_g (lw_at lw_m15 31 rfl) rfl
theorem q3475 : (Jvm.Cond.laysFinal "MergeWorkbenchModel" "MergeWorkbenchModel" "mates" "[I") ∈ lw_all := lw_g (lw_at lw_m15 32 rfl) rfl
theorem q3476 : (Jvm.Cond.soleField "MergeWorkbenchModel" "mates") ∈ lw_all := lw_g (lw_at lw_m15 33 rfl) rfl
theorem q3477 : (Jvm.Cond.laysFinal "MergeWorkbenchModel" "MergeWorkbenchModel" "chains" "[I") ∈ lw_all := lw_g (lw_at lw_m15 34 rfl) rfl
theorem q3478 : (Jvm.Cond.soleField "MergeWorkbenchModel" "chains") ∈ lw_all := lw_g (lw_at lw_m15 35 rfl) rfl
theorem q3479 : (Jvm.Cond.lays "MergeWorkbenchModel" "MergeWorkbenchModel" "anchorMany" "I") ∈ lw_all := lw_g (lw_at lw_m15 36 rfl) rfl
theorem q3480 : (Jvm.Cond.soleField "MergeWorkbenchModel" "anchorMany") ∈ lw_all := lw_g (lw_at lw_m15 37 rfl) rfl
theorem q3481 : (Jvm.Cond.laysFinal "MergeWorkbenchModel" "MergeWorkbenchModel" "rowA" "[I") ∈ lw_all := lw_g (lw_at lw_m15 38 rfl) rfl
theorem q3482 : (Jvm.Cond.soleField "MergeWorkbenchModel" "rowA") ∈ lw_all := lw_g (lw_at lw_m15 39 rfl) rfl
theorem q3483 : (Jvm.Cond.laysFinal "MergeWorkbenchModel" "MergeWorkbenchModel" "rowB" "[I") ∈ lw_all := lw_g (lw_at lw_m15 40 rfl) rfl
theorem q3484 : (Jvm.Cond.soleField "MergeWorkbenchModel" "rowB") ∈ lw_all := lw_g (lw_at lw_m15 41 rfl) rfl
theorem q3485 : (Jvm.Cond.lays "MergeWorkbenchModel" "MergeWorkbenchModel" "hasCompared" "Z") ∈ lw_all := lw_g (lw_at lw_m15 42 rfl) rfl
theorem q3486 : (Jvm.Cond.soleField "MergeWorkbenchModel" "hasCompared") ∈ lw_all := lw_g (lw_at lw_m15 43 rfl) rfl
theorem q3487 : (Jvm.Cond.laysFinal "MergeWorkbenchModel" "MergeWorkbenchModel" "a0" "[I") ∈ lw_all := lw_g (lw_at lw_m15 44 rfl) rfl
theorem q3488 : (Jvm.Cond.soleField "MergeWorkbenchModel" "a0") ∈ lw_all := lw_g (lw_at lw_m15 45 rfl) rfl
theorem q3489 : (Jvm.Cond.lays "MergeWorkbenchModel" "MergeWorkbenchModel" "aSize" "I") ∈ lw_all := lw_g (lw_at lw_m15 46 rfl) rfl
theorem q3490 : (Jvm.Cond.soleField "MergeWorkbenchModel" "aSize") ∈ lw_all := lw_g (lw_at lw_m15 47 rfl) rfl
theorem q3491 : (Jvm.Cond.laysFinal "MergeWorkbenchModel" "MergeWorkbenchModel" "b0" "[I") ∈ lw_all := lw_g (lw_at lw_m15 48 rfl) rfl
theorem q3492 : (Jvm.Cond.soleField "MergeWorkbenchModel" "b0") ∈ lw_all := lw_g (lw_at lw_m15 49 rfl) rfl
theorem q3493 : (Jvm.Cond.lays "MergeWorkbenchModel" "MergeWorkbenchModel" "bSize" "I") ∈ lw_all := lw_g (lw_at lw_m15 50 rfl) rfl
theorem q3494 : (Jvm.Cond.soleField "MergeWorkbenchModel" "bSize") ∈ lw_all := lw_g (lw_at lw_m15 51 rfl) rfl
theorem q3495 : (Jvm.Cond.laysFinal "MergeWorkbenchModel" "MergeWorkbenchModel" "partner" "[I") ∈ lw_all := lw_g (lw_at lw_m15 52 rfl) rfl
theorem q3496 : (Jvm.Cond.soleField "MergeWorkbenchModel" "partner") ∈ lw_all := lw_g (lw_at lw_m15 53 rfl) rfl
theorem q3497 : (Jvm.Cond.lays "MergeWorkbenchModel" "MergeWorkbenchModel" "comparedAnchors" "I") ∈ lw_all := lw_g (lw_at lw_m15 54 rfl) rfl
theorem q3498 : (Jvm.Cond.soleField "MergeWorkbenchModel" "comparedAnchors") ∈ lw_all := lw_g (lw_at lw_m15 55 rfl) rfl
theorem q3499 : (Jvm.Cond.laysFinal "MergeWorkbenchModel" "MergeWorkbenchModel" "moves" "[I") ∈ lw_all := lw_g (lw_at lw_m15 56 rfl) rfl
theorem q3500 : (Jvm.Cond.soleField "MergeWorkbenchModel" "moves") ∈ lw_all := lw_g (lw_at lw_m15 57 rfl) rfl
theorem q3501 : (Jvm.Cond.lays "MergeWorkbenchModel" "MergeWorkbenchModel" "moveMany" "I") ∈ lw_all := lw_g (lw_at lw_m15 58 rfl) rfl
theorem q3502 : (Jvm.Cond.soleField "MergeWorkbenchModel" "moveMany") ∈ lw_all := lw_g (lw_at lw_m15 59 rfl) rfl
theorem q3503 : (Jvm.Cond.laysFinal "MergeWorkbenchModel" "MergeWorkbenchModel" "parts" "[I") ∈ lw_all := lw_g (lw_at lw_m15 60 rfl) rfl
theorem q3504 : (Jvm.Cond.soleField "MergeWorkbenchModel" "parts") ∈ lw_all := lw_g (lw_at lw_m15 61 rfl) rfl
theorem q3505 : (Jvm.Cond.lays "MergeWorkbenchModel" "MergeWorkbenchModel" "partMany" "I") ∈ lw_all := lw_g (lw_at lw_m15 62 rfl) rfl
theorem q3506 : (Jvm.Cond.soleField "MergeWorkbenchModel" "partMany") ∈ lw_all := lw_g (lw_at lw_m15 63 rfl) rfl
theorem q3507 : (Jvm.Cond.laysFinal "MergeWorkbenchModel" "MergeWorkbenchModel" "usedA" "[Z") ∈ lw_all := lw_g (lw_at lw_m15 64 rfl) rfl
theorem q3508 : (Jvm.Cond.soleField "MergeWorkbenchModel" "usedA") ∈ lw_all := lw_g (lw_at lw_m15 65 rfl) rfl
theorem q3509 : (Jvm.Cond.laysFinal "MergeWorkbenchModel" "MergeWorkbenchModel" "usedB" "[Z") ∈ lw_all := lw_g (lw_at lw_m15 66 rfl) rfl
theorem q3510 : (Jvm.Cond.soleField "MergeWorkbenchModel" "usedB") ∈ lw_all := lw_g (lw_at lw_m15 67 rfl) rfl
theorem q3511 : (Jvm.Cond.lays "MergeWorkbenchModel" "MergeWorkbenchModel" "hasMerged" "Z") ∈ lw_all := lw_g (lw_at lw_m15 68 rfl) rfl
theorem q3512 : (Jvm.Cond.soleField "MergeWorkbenchModel" "hasMerged") ∈ lw_all := lw_g (lw_at lw_m15 69 rfl) rfl
theorem q3513 : (Jvm.Cond.laysFinal "MergeWorkbenchModel" "MergeWorkbenchModel" "base" "[I") ∈ lw_all := lw_g (lw_at lw_m15 70 rfl) rfl
theorem q3514 : (Jvm.Cond.soleField "MergeWorkbenchModel" "base") ∈ lw_all := lw_g (lw_at lw_m15 71 rfl) rfl
theorem q3515 : (Jvm.Cond.lays "MergeWorkbenchModel" "MergeWorkbenchModel" "baseSize" "I") ∈ lw_all := lw_g (lw_at lw_m15 72 rfl) rfl
theorem q3516 : (Jvm.Cond.soleField "MergeWorkbenchModel" "baseSize") ∈ lw_all := lw_g (lw_at lw_m15 73 rfl) rfl
theorem q3517 : (Jvm.Cond.laysFinal "MergeWorkbenchModel" "MergeWorkbenchModel" "left" "[I") ∈ lw_all := lw_g (lw_at lw_m15 74 rfl) rfl
theorem q3518 : (Jvm.Cond.soleField "MergeWorkbenchModel" "left") ∈ lw_all := lw_g (lw_at lw_m15 75 rfl) rfl
theorem q3519 : (Jvm.Cond.lays "MergeWorkbenchModel" "MergeWorkbenchModel" "leftSize" "I") ∈ lw_all := lw_g (lw_at lw_m15 76 rfl) rfl
theorem q3520 : (Jvm.Cond.soleField "MergeWorkbenchModel" "leftSize") ∈ lw_all := lw_g (lw_at lw_m15 77 rfl) rfl
theorem q3521 : (Jvm.Cond.laysFinal "MergeWorkbenchModel" "MergeWorkbenchModel" "right" "[I") ∈ lw_all := lw_g (lw_at lw_m15 78 rfl) rfl
theorem q3522 : (Jvm.Cond.soleField "MergeWorkbenchModel" "right") ∈ lw_all := lw_g (lw_at lw_m15 79 rfl) rfl
theorem q3523 : (Jvm.Cond.lays "MergeWorkbenchModel" "MergeWorkbenchModel" "rightSize" "I") ∈ lw_all := lw_g (lw_at lw_m15 80 rfl) rfl
theorem q3524 : (Jvm.Cond.soleField "MergeWorkbenchModel" "rightSize") ∈ lw_all := lw_g (lw_at lw_m15 81 rfl) rfl
theorem q3525 : (Jvm.Cond.laysFinal "MergeWorkbenchModel" "MergeWorkbenchModel" "toLeft" "[I") ∈ lw_all := lw_g (lw_at lw_m15 82 rfl) rfl
theorem q3526 : (Jvm.Cond.soleField "MergeWorkbenchModel" "toLeft") ∈ lw_all := lw_g (lw_at lw_m15 83 rfl) rfl
theorem q3527 : (Jvm.Cond.laysFinal "MergeWorkbenchModel" "MergeWorkbenchModel" "toRight" "[I") ∈ lw_all := lw_g (lw_at lw_m15 84 rfl) rfl
theorem q3528 : (Jvm.Cond.soleField "MergeWorkbenchModel" "toRight") ∈ lw_all := lw_g (lw_at lw_m15 85 rfl) rfl
theorem q3529 : (Jvm.Cond.laysFinal "MergeWorkbenchModel" "MergeWorkbenchModel" "chunks" "[I") ∈ lw_all := lw_g (lw_at lw_m15 86 rfl) rfl
theorem q3530 : (Jvm.Cond.soleField "MergeWorkbenchModel" "chunks") ∈ lw_all := lw_g (lw_at lw_m15 87 rfl) rfl
theorem q3531 : (Jvm.Cond.lays "MergeWorkbenchModel" "MergeWorkbenchModel" "chunkMany" "I") ∈ lw_all := lw_g (lw_at lw_m15 88 rfl) rfl
theorem q3532 : (Jvm.Cond.soleField "MergeWorkbenchModel" "chunkMany") ∈ lw_all := lw_g (lw_at lw_m15 89 rfl) rfl
theorem q3533 : (Jvm.Cond.laysFinal "MergeWorkbenchModel" "MergeWorkbenchModel" "choices" "[I") ∈ lw_all := lw_g (lw_at lw_m15 90 rfl) rfl
theorem q3534 : (Jvm.Cond.soleField "MergeWorkbenchModel" "choices") ∈ lw_all := lw_g (lw_at lw_m15 91 rfl) rfl
theorem q3535 : (Jvm.Cond.lays "MergeWorkbenchModel" "MergeWorkbenchModel" "conflictMany" "I") ∈ lw_all := lw_g (lw_at lw_m15 92 rfl) rfl
theorem q3536 : (Jvm.Cond.soleField "MergeWorkbenchModel" "conflictMany") ∈ lw_all := lw_g (lw_at lw_m15 93 rfl) rfl
theorem q3537 : (Jvm.Cond.lays "MergeWorkbenchModel" "MergeWorkbenchModel" "hasPatch" "Z") ∈ lw_all := lw_g (lw_at lw_m15 94 rfl) rfl
theorem q3538 : (Jvm.Cond.soleField "MergeWorkbenchModel" "hasPatch") ∈ lw_all := lw_g (lw_at lw_m15 95 rfl) rfl
theorem q3539 : (Jvm.Cond.laysFinal "MergeWorkbenchModel" "MergeWorkbenchModel" "hunks" "[I") ∈ lw_all := lw_g (lw_at lw_m15 96 rfl) rfl
theorem q3540 : (Jvm.Cond.soleField "MergeWorkbenchModel" "hunks") ∈ lw_all := lw_g (lw_at lw_m15 97 rfl) rfl
theorem q3541 : (Jvm.Cond.lays "MergeWorkbenchModel" "MergeWorkbenchModel" "hunkMany" "I") ∈ lw_all := lw_g (lw_at lw_m15 98 rfl) rfl
theorem q3542 : (Jvm.Cond.soleField "MergeWorkbenchModel" "hunkMany") ∈ lw_all := lw_g (lw_at lw_m15 99 rfl) rfl
theorem q3543 : (Jvm.Cond.laysFinal "MergeWorkbenchModel" "MergeWorkbenchModel" "oldLines" "[I") ∈ lw_all := lw_g (lw_at lw_m15 100 rfl) rfl
theorem q3544 : (Jvm.Cond.soleField "MergeWorkbenchModel" "oldLines") ∈ lw_all := lw_g (lw_at lw_m15 101 rfl) rfl
theorem q3545 : (Jvm.Cond.laysFinal "MergeWorkbenchModel" "MergeWorkbenchModel" "newLines" "[I") ∈ lw_all := lw_g (lw_at lw_m15 102 rfl) rfl
theorem q3546 : (Jvm.Cond.soleField "MergeWorkbenchModel" "newLines") ∈ lw_all := lw_g (lw_at lw_m15 103 rfl) rfl
theorem q3547 : (Jvm.Cond.lays "MergeWorkbenchModel" "MergeWorkbenchModel" "hasOutcome" "Z") ∈ lw_all := lw_g (lw_at lw_m15 104 rfl) rfl
theorem q3548 : (Jvm.Cond.soleField "MergeWorkbenchModel" "hasOutcome") ∈ lw_all := lw_g (lw_at lw_m15 105 rfl) rfl
theorem q3549 : (Jvm.Cond.laysFinal "MergeWorkbenchModel" "MergeWorkbenchModel" "outcomes" "[I") ∈ lw_all := lw_g (lw_at lw_m15 106 rfl) rfl
theorem q3550 : (Jvm.Cond.soleField "MergeWorkbenchModel" "outcomes") ∈ lw_all := lw_g (lw_at lw_m15 107 rfl) rfl
theorem q3551 : (Jvm.Cond.lays "MergeWorkbenchModel" "MergeWorkbenchModel" "free" "I") ∈ lw_all := lw_g (lw_at lw_m15 108 rfl) rfl
theorem q3552 : (Jvm.Cond.soleField "MergeWorkbenchModel" "free") ∈ lw_all := lw_g (lw_at lw_m15 109 rfl) rfl
theorem q3553 : (Jvm.Cond.lays "MergeWorkbenchModel" "MergeWorkbenchModel" "shift" "I") ∈ lw_all := lw_g (lw_at lw_m15 110 rfl) rfl
theorem q3554 : (Jvm.Cond.soleField "MergeWorkbenchModel" "shift") ∈ lw_all := lw_g (lw_at lw_m15 111 rfl) rfl
theorem q3555 : (Jvm.Cond.laysFinal "MergeWorkbenchModel" "MergeWorkbenchModel" "came" "[I") ∈ lw_all := lw_g (lw_at lw_m15 112 rfl) rfl
theorem q3556 : (Jvm.Cond.soleField "MergeWorkbenchModel" "came") ∈ lw_all := lw_g (lw_at lw_m15 113 rfl) rfl
theorem q3557 : (Jvm.Cond.superclass "MergeWorkbenchModel" "java/lang/Object") ∈ lw_all := lw_g (lw_at lw_m15 114 rfl) rfl
theorem q3560 : (Jvm.Cond.instanceMethod ({ cls := "MergeWorkbenchModel", name := "thrown", desc := "()I" } : Jvm.MethodName)) ∈ lw_all := lw_g (lw_at lw_m15 117 rfl) rfl
theorem q3561 : (Jvm.Cond.selects "MergeWorkbenchModel" ({ cls := "MergeWorkbenchModel", name := "thrown", desc := "()I" } : Jvm.MethodName) ({ cls := "MergeWorkbenchModel", name := "thrown", desc := "()I" } : Jvm.MethodName)) ∈ lw_all := lw_g (lw_at lw_m15 118 rfl) rfl
theorem q3562 : (Jvm.Cond.code ({ cls := "MergeWorkbenchModel", name := "thrown", desc := "()I" } : Jvm.MethodName) prog_22_method_2_code (1 : Nat) (Option.some Jvm.ClassFile.FieldType.int)) ∈ lw_all := lw_g (lw_at lw_m15 119 rfl) rfl
theorem q3564 : (Jvm.Cond.instanceMethod ({ cls := "MergeWorkbenchModel", name := "append", desc := "(II)I" } : Jvm.MethodName)) ∈ lw_all := lw_g (lw_at lw_m15 121 rfl) rfl
theorem q3565 : (Jvm.Cond.selects "MergeWorkbenchModel" ({ cls := "MergeWorkbenchModel", name := "append", desc := "(II)I" } : Jvm.MethodName) ({ cls := "MergeWorkbenchModel", name := "append", desc := "(II)I" } : Jvm.MethodName)) ∈ lw_all := lw_g (lw_at lw_m15 122 rfl) rfl
theorem q3566 : (Jvm.Cond.code ({ cls := "MergeWorkbenchModel", name := "append", desc := "(II)I" } : Jvm.MethodName) prog_22_method_11_code (3 : Nat) (Option.some Jvm.ClassFile.FieldType.int)) ∈ lw_all := lw_g (lw_at lw_m15 123 rfl) rfl
theorem q3567 : (Jvm.Cond.methodLink "MergeWorkbenchModel" (126 : Nat) ({ cls := "MergeWorkbenchModel", name := "isRegister", desc := "(I)Z" } : Jvm.MethodName)) ∈ lw_all := lw_g (lw_at lw_m15 124 rfl) rfl
theorem q3568 : (Jvm.Cond.static ({ cls := "MergeWorkbenchModel", name := "isRegister", desc := "(I)Z" } : Jvm.MethodName)) ∈ lw_all := lw_g (lw_at lw_m15 125 rfl) rfl
theorem q3569 : (Jvm.Cond.code ({ cls := "MergeWorkbenchModel", name := "isRegister", desc := "(I)Z" } : Jvm.MethodName) prog_22_method_8_code (1 : Nat) (Option.some Jvm.ClassFile.FieldType.boolean)) ∈ lw_all := lw_g (lw_at lw_m15 126 rfl) rfl
theorem q3570 : (Jvm.Cond.methodLink "MergeWorkbenchModel" (119 : Nat) ({ cls := "MergeWorkbenchModel", name := "in", desc := "(III)Z" } : Jvm.MethodName)) ∈ lw_all := lw_g (lw_at lw_m15 127 rfl) rfl
theorem q3571 : (Jvm.Cond.static ({ cls := "MergeWorkbenchModel", name := "in", desc := "(III)Z" } : Jvm.MethodName)) ∈ lw_all := lw_g (lw_at lw_m15 128 rfl) rfl
theorem q3572 : (Jvm.Cond.code ({ cls := "MergeWorkbenchModel", name := "in", desc := "(III)Z" } : Jvm.MethodName) prog_22_method_3_code (3 : Nat) (Option.some Jvm.ClassFile.FieldType.boolean)) ∈ lw_all := lw_g (lw_at lw_m15 129 rfl) rfl
theorem q3573 : (Jvm.Cond.methodLink "MergeWorkbenchModel" (130 : Nat) ({ cls := "MergeWorkbenchModel", name := "fails", desc := "(I)I" } : Jvm.MethodName)) ∈ lw_all := lw_g (lw_at lw_m15 130 rfl) rfl
theorem q3574 : (Jvm.Cond.privateMethod ({ cls := "MergeWorkbenchModel", name := "fails", desc := "(I)I" } : Jvm.MethodName)) ∈ lw_tbl := lw_at lw_m15 131 rfl
theorem q3575 : (Jvm.Cond.instanceMethod ({ cls := "MergeWorkbenchModel", name := "fails", desc := "(I)I" } : Jvm.MethodName)) ∈ lw_all := lw_g (lw_at lw_m15 132 rfl) rfl
theorem q3576 : (Jvm.Cond.code ({ cls := "MergeWorkbenchModel", name := "fails", desc := "(I)I" } : Jvm.MethodName) prog_22_method_4_code (2 : Nat) (Option.some Jvm.ClassFile.FieldType.int)) ∈ lw_all := lw_g (lw_at lw_m15 133 rfl) rfl
theorem q3577 : (Jvm.Cond.methodLink "MergeWorkbenchModel" (134 : Nat) ({ cls := "MergeWorkbenchModel", name := "remembers", desc := "(I)V" } : Jvm.MethodName)) ∈ lw_all := lw_g (lw_at lw_m15 134 rfl) rfl
theorem q3578 : (Jvm.Cond.privateMethod ({ cls := "MergeWorkbenchModel", name := "remembers", desc := "(I)V" } : Jvm.MethodName)) ∈ lw_tbl := lw_at lw_m15 135 rfl
theorem q3579 : (Jvm.Cond.instanceMethod ({ cls := "MergeWorkbenchModel", name := "remembers", desc := "(I)V" } : Jvm.MethodName)) ∈ lw_all := lw_g (lw_at lw_m15 136 rfl) rfl
theorem q3580 : (Jvm.Cond.code ({ cls := "MergeWorkbenchModel", name := "remembers", desc := "(I)V" } : Jvm.MethodName) prog_22_method_9_code (3 : Nat) (Option.none : Option Jvm.ClassFile.FieldType)) ∈ lw_all := lw_g (lw_at lw_m15 137 rfl) rfl
theorem q3581 : (Jvm.Cond.methodLink "MergeWorkbenchModel" (138 : Nat) ({ cls := "MergeWorkbenchModel", name := "done", desc := "(I)I" } : Jvm.MethodName)) ∈ lw_all := lw_g (lw_at lw_m15 138 rfl) rfl
theorem q3582 : (Jvm.Cond.privateMethod ({ cls := "MergeWorkbenchModel", name := "done", desc := "(I)I" } : Jvm.MethodName)) ∈ lw_tbl := lw_at lw_m15 139 rfl
theorem q3583 : (Jvm.Cond.instanceMethod ({ cls := "MergeWorkbenchModel", name := "done", desc := "(I)I" } : Jvm.MethodName)) ∈ lw_all := lw_g (lw_at lw_m15 140 rfl) rfl
theorem q3584 : (Jvm.Cond.code ({ cls := "MergeWorkbenchModel", name := "done", desc := "(I)I" } : Jvm.MethodName) prog_22_method_5_code (2 : Nat) (Option.some Jvm.ClassFile.FieldType.int)) ∈ lw_all := lw_g (lw_at lw_m15 141 rfl) rfl
theorem q3586 : (Jvm.Cond.instanceMethod ({ cls := "MergeWorkbenchModel", name := "insert", desc := "(III)I" } : Jvm.MethodName)) ∈ lw_all := lw_g (lw_at lw_m15 143 rfl) rfl
theorem q3587 : (Jvm.Cond.selects "MergeWorkbenchModel" ({ cls := "MergeWorkbenchModel", name := "insert", desc := "(III)I" } : Jvm.MethodName) ({ cls := "MergeWorkbenchModel", name := "insert", desc := "(III)I" } : Jvm.MethodName)) ∈ lw_all := lw_g (lw_at lw_m15 144 rfl) rfl
theorem q3588 : (Jvm.Cond.code ({ cls := "MergeWorkbenchModel", name := "insert", desc := "(III)I" } : Jvm.MethodName) prog_22_method_12_code (5 : Nat) (Option.some Jvm.ClassFile.FieldType.int)) ∈ lw_all := lw_g (lw_at lw_m15 145 rfl) rfl
theorem q3590 : (Jvm.Cond.instanceMethod ({ cls := "MergeWorkbenchModel", name := "delete", desc := "(II)I" } : Jvm.MethodName)) ∈ lw_all := lw_g (lw_at lw_m15 147 rfl) rfl
theorem q3591 : (Jvm.Cond.selects "MergeWorkbenchModel" ({ cls := "MergeWorkbenchModel", name := "delete", desc := "(II)I" } : Jvm.MethodName) ({ cls := "MergeWorkbenchModel", name := "delete", desc := "(II)I" } : Jvm.MethodName)) ∈ lw_all := lw_g (lw_at lw_m15 148 rfl) rfl
theorem q3592 : (Jvm.Cond.code ({ cls := "MergeWorkbenchModel", name := "delete", desc := "(II)I" } : Jvm.MethodName) prog_22_method_13_code (5 : Nat) (Option.some Jvm.ClassFile.FieldType.int)) ∈ lw_all := lw_g (lw_at lw_m15 149 rfl) rfl
theorem q3594 : (Jvm.Cond.instanceMethod ({ cls := "MergeWorkbenchModel", name := "length", desc := "(I)I" } : Jvm.MethodName)) ∈ lw_all := lw_g (lw_at lw_m15 151 rfl) rfl
theorem q3595 : (Jvm.Cond.selects "MergeWorkbenchModel" ({ cls := "MergeWorkbenchModel", name := "length", desc := "(I)I" } : Jvm.MethodName) ({ cls := "MergeWorkbenchModel", name := "length", desc := "(I)I" } : Jvm.MethodName)) ∈ lw_all := lw_g (lw_at lw_m15 152 rfl) rfl
theorem q3596 : (Jvm.Cond.code ({ cls := "MergeWorkbenchModel", name := "length", desc := "(I)I" } : Jvm.MethodName) prog_22_method_14_code (2 : Nat) (Option.some Jvm.ClassFile.FieldType.int)) ∈ lw_all := lw_g (lw_at lw_m15 153 rfl) rfl
theorem q3598 : (Jvm.Cond.instanceMethod ({ cls := "MergeWorkbenchModel", name := "line", desc := "(II)I" } : Jvm.MethodName)) ∈ lw_all := lw_g (lw_at lw_m15 155 rfl) rfl
theorem q3599 : (Jvm.Cond.selects "MergeWorkbenchModel" ({ cls := "MergeWorkbenchModel", name := "line", desc := "(II)I" } : Jvm.MethodName) ({ cls := "MergeWorkbenchModel", name := "line", desc := "(II)I" } : Jvm.MethodName)) ∈ lw_all := lw_g (lw_at lw_m15 156 rfl) rfl
theorem q3600 : (Jvm.Cond.code ({ cls := "MergeWorkbenchModel", name := "line", desc := "(II)I" } : Jvm.MethodName) prog_22_method_15_code (3 : Nat) (Option.some Jvm.ClassFile.FieldType.int)) ∈ lw_all := lw_g (lw_at lw_m15 157 rfl) rfl
theorem q3602 : (Jvm.Cond.instanceMethod ({ cls := "MergeWorkbenchModel", name := "copy", desc := "(II)I" } : Jvm.MethodName)) ∈ lw_all := lw_g (lw_at lw_m15 159 rfl) rfl
theorem q3603 : (Jvm.Cond.selects "MergeWorkbenchModel" ({ cls := "MergeWorkbenchModel", name := "copy", desc := "(II)I" } : Jvm.MethodName) ({ cls := "MergeWorkbenchModel", name := "copy", desc := "(II)I" } : Jvm.MethodName)) ∈ lw_all := lw_g (lw_at lw_m15 160 rfl) rfl
theorem q3604 : (Jvm.Cond.code ({ cls := "MergeWorkbenchModel", name := "copy", desc := "(II)I" } : Jvm.MethodName) prog_22_method_16_code (4 : Nat) (Option.some Jvm.ClassFile.FieldType.int)) ∈ lw_all := lw_g (lw_at lw_m15 161 rfl) rfl
theorem q3605 : (Jvm.Cond.methodLink "MergeWorkbenchModel" (141 : Nat) ({ cls := "MergeWorkbenchModel", name := "holds", desc := "(I[II)V" } : Jvm.MethodName)) ∈ lw_all := lw_g (lw_at lw_m15 162 rfl) rfl
theorem q3606 : (Jvm.Cond.privateMethod ({ cls := "MergeWorkbenchModel", name := "holds", desc := "(I[II)V" } : Jvm.MethodName)) ∈ lw_tbl := lw_at lw_m15 163 rfl
theorem q3607 : (Jvm.Cond.instanceMethod ({ cls := "MergeWorkbenchModel", name := "holds", desc := "(I[II)V" } : Jvm.MethodName)) ∈ lw_all := lw_g (lw_at lw_m15 164 rfl) rfl
theorem q3608 : (Jvm.Cond.code ({ cls := "MergeWorkbenchModel", name := "holds", desc := "(I[II)V" } : Jvm.MethodName) prog_22_method_10_code (5 : Nat) (Option.none : Option Jvm.ClassFile.FieldType)) ∈ lw_all := lw_g (lw_at lw_m15 165 rfl) rfl
theorem q3610 : (Jvm.Cond.instanceMethod ({ cls := "MergeWorkbenchModel", name := "isSame", desc := "(II)Z" } : Jvm.MethodName)) ∈ lw_all := lw_g (lw_at lw_m15 167 rfl) rfl
theorem q3611 : (Jvm.Cond.selects "MergeWorkbenchModel" ({ cls := "MergeWorkbenchModel", name := "isSame", desc := "(II)Z" } : Jvm.MethodName) ({ cls := "MergeWorkbenchModel", name := "isSame", desc := "(II)Z" } : Jvm.MethodName)) ∈ lw_all := lw_g (lw_at lw_m15 168 rfl) rfl
theorem q3612 : (Jvm.Cond.code ({ cls := "MergeWorkbenchModel", name := "isSame", desc := "(II)Z" } : Jvm.MethodName) prog_22_method_17_code (5 : Nat) (Option.some Jvm.ClassFile.FieldType.boolean)) ∈ lw_all := lw_g (lw_at lw_m15 169 rfl) rfl
theorem q3613 : (Jvm.Cond.methodLink "MergeWorkbenchModel" (145 : Nat) ({ cls := "MergeWorkbenchModel", name := "not", desc := "(I)Z" } : Jvm.MethodName)) ∈ lw_all := lw_g (lw_at lw_m15 170 rfl) rfl
theorem q3614 : (Jvm.Cond.privateMethod ({ cls := "MergeWorkbenchModel", name := "not", desc := "(I)Z" } : Jvm.MethodName)) ∈ lw_tbl := lw_at lw_m15 171 rfl
theorem q3615 : (Jvm.Cond.instanceMethod ({ cls := "MergeWorkbenchModel", name := "not", desc := "(I)Z" } : Jvm.MethodName)) ∈ lw_all := lw_g (lw_at lw_m15 172 rfl) rfl
theorem q3616 : (Jvm.Cond.code ({ cls := "MergeWorkbenchModel", name := "not", desc := "(I)Z" } : Jvm.MethodName) prog_22_method_6_code (2 : Nat) (Option.some Jvm.ClassFile.FieldType.boolean)) ∈ lw_all := lw_g (lw_at lw_m15 173 rfl) rfl
theorem q3617 : (Jvm.Cond.methodLink "MergeWorkbenchModel" (148 : Nat) ({ cls := "MergeWorkbenchModel", name := "so", desc := "(Z)Z" } : Jvm.MethodName)) ∈ lw_all := lw_g (lw_at lw_m15 174 rfl) rfl
theorem q3618 : (Jvm.Cond.privateMethod ({ cls := "MergeWorkbenchModel", name := "so", desc := "(Z)Z" } : Jvm.MethodName)) ∈ lw_tbl := lw_at lw_m15 175 rfl
theorem q3619 : (Jvm.Cond.instanceMethod ({ cls := "MergeWorkbenchModel", name := "so", desc := "(Z)Z" } : Jvm.MethodName)) ∈ lw_all := lw_g (lw_at lw_m15 176 rfl) rfl
theorem q3620 : (Jvm.Cond.code ({ cls := "MergeWorkbenchModel", name := "so", desc := "(Z)Z" } : Jvm.MethodName) prog_22_method_7_code (2 : Nat) (Option.some Jvm.ClassFile.FieldType.boolean)) ∈ lw_all := lw_g (lw_at lw_m15 177 rfl) rfl
theorem q3622 : (Jvm.Cond.instanceMethod ({ cls := "MergeWorkbenchModel", name := "feed", desc := "(C)I" } : Jvm.MethodName)) ∈ lw_all := lw_g (lw_at lw_m15 179 rfl) rfl
theorem q3623 : (Jvm.Cond.selects "MergeWorkbenchModel" ({ cls := "MergeWorkbenchModel", name := "feed", desc := "(C)I" } : Jvm.MethodName) ({ cls := "MergeWorkbenchModel", name := "feed", desc := "(C)I" } : Jvm.MethodName)) ∈ lw_all := lw_g (lw_at lw_m15 180 rfl) rfl
theorem q3624 : (Jvm.Cond.code ({ cls := "MergeWorkbenchModel", name := "feed", desc := "(C)I" } : Jvm.MethodName) prog_22_method_22_code (2 : Nat) (Option.some Jvm.ClassFile.FieldType.int)) ∈ lw_all := lw_g (lw_at lw_m15 181 rfl) rfl
theorem q3626 : (Jvm.Cond.instanceMethod ({ cls := "MergeWorkbenchModel", name := "readDocument", desc := "(I)I" } : Jvm.MethodName)) ∈ lw_all := lw_g (lw_at lw_m15 183 rfl) rfl
theorem q3627 : (Jvm.Cond.selects "MergeWorkbenchModel" ({ cls := "MergeWorkbenchModel", name := "readDocument", desc := "(I)I" } : Jvm.MethodName) ({ cls := "MergeWorkbenchModel", name := "readDocument", desc := "(I)I" } : Jvm.MethodName)) ∈ lw_all := lw_g (lw_at lw_m15 184 rfl) rfl
theorem q3628 : (Jvm.Cond.code ({ cls := "MergeWorkbenchModel", name := "readDocument", desc := "(I)I" } : Jvm.MethodName) prog_22_method_23_code (3 : Nat) (Option.some Jvm.ClassFile.FieldType.int)) ∈ lw_all := lw_g (lw_at lw_m15 185 rfl) rfl
theorem q3629 : (Jvm.Cond.methodLink "MergeWorkbenchModel" (171 : Nat) ({ cls := "MergeWorkbenchModel", name := "readsItem", desc := "(LMergeWorkbenchModel;)Z" } : Jvm.MethodName)) ∈ lw_all := lw_g (lw_at lw_m15 186 rfl) rfl
theorem q3630 : (Jvm.Cond.static ({ cls := "MergeWorkbenchModel", name := "readsItem", desc := "(LMergeWorkbenchModel;)Z" } : Jvm.MethodName)) ∈ lw_all := lw_g (lw_at lw_m15 187 rfl) rfl
theorem q3631 : (Jvm.Cond.code ({ cls := "MergeWorkbenchModel", name := "readsItem", desc := "(LMergeWorkbenchModel;)Z" } : Jvm.MethodName) prog_22_method_21_code (3 : Nat) (Option.some Jvm.ClassFile.FieldType.boolean)) ∈ lw_all := lw_g (lw_at lw_m15 188 rfl) rfl
theorem q3632 : (Jvm.Cond.methodLink "MergeWorkbenchModel" (161 : Nat) ({ cls := "MergeWorkbenchModel", name := "here", desc := "()I" } : Jvm.MethodName)) ∈ lw_all := lw_g (lw_at lw_m15 189 rfl) rfl
theorem q3633 : (Jvm.Cond.privateMethod ({ cls := "MergeWorkbenchModel", name := "here", desc := "()I" } : Jvm.MethodName)) ∈ lw_tbl := lw_at lw_m15 190 rfl
theorem q3634 : (Jvm.Cond.instanceMethod ({ cls := "MergeWorkbenchModel", name := "here", desc := "()I" } : Jvm.MethodName)) ∈ lw_all := lw_g (lw_at lw_m15 191 rfl) rfl
theorem q3635 : (Jvm.Cond.code ({ cls := "MergeWorkbenchModel", name := "here", desc := "()I" } : Jvm.MethodName) prog_22_method_18_code (1 : Nat) (Option.some Jvm.ClassFile.FieldType.int)) ∈ lw_all := lw_g (lw_at lw_m15 192 rfl) rfl
theorem q3636 : (Jvm.Cond.methodLink "MergeWorkbenchModel" (165 : Nat) ({ cls := "MergeWorkbenchModel", name := "comes", desc := "(I)V" } : Jvm.MethodName)) ∈ lw_all := lw_g (lw_at lw_m15 193 rfl) rfl
theorem q3637 : (Jvm.Cond.privateMethod ({ cls := "MergeWorkbenchModel", name := "comes", desc := "(I)V" } : Jvm.MethodName)) ∈ lw_tbl := lw_at lw_m15 194 rfl
theorem q3638 : (Jvm.Cond.instanceMethod ({ cls := "MergeWorkbenchModel", name := "comes", desc := "(I)V" } : Jvm.MethodName)) ∈ lw_all := lw_g (lw_at lw_m15 195 rfl) rfl
theorem q3639 : (Jvm.Cond.code ({ cls := "MergeWorkbenchModel", name := "comes", desc := "(I)V" } : Jvm.MethodName) prog_22_method_19_code (2 : Nat) (Option.none : Option Jvm.ClassFile.FieldType)) ∈ lw_all := lw_g (lw_at lw_m15 196 rfl) rfl
theorem q3640 : (Jvm.Cond.methodLink "MergeWorkbenchModel" (175 : Nat) ({ cls := "MergeWorkbenchModel", name := "repeats", desc := "(I)V" } : Jvm.MethodName)) ∈ lw_all := lw_g (lw_at lw_m15 197 rfl) rfl
theorem q3641 : (Jvm.Cond.privateMethod ({ cls := "MergeWorkbenchModel", name := "repeats", desc := "(I)V" } : Jvm.MethodName)) ∈ lw_tbl := lw_at lw_m15 198 rfl
theorem q3642 : (Jvm.Cond.instanceMethod ({ cls := "MergeWorkbenchModel", name := "repeats", desc := "(I)V" } : Jvm.MethodName)) ∈ lw_all := lw_g (lw_at lw_m15 199 rfl) rfl
theorem q3643 : (Jvm.Cond.code ({ cls := "MergeWorkbenchModel", name := "repeats", desc := "(I)V" } : Jvm.MethodName) prog_22_method_20_code (5 : Nat) (Option.none : Option Jvm.ClassFile.FieldType)) ∈ lw_all := lw_g (lw_at lw_m15 200 rfl) rfl
theorem q3645 : (Jvm.Cond.instanceMethod ({ cls := "MergeWorkbenchModel", name := "distance", desc := "(II)I" } : Jvm.MethodName)) ∈ lw_all := lw_g (lw_at lw_m15 202 rfl) rfl
theorem q3646 : (Jvm.Cond.selects "MergeWorkbenchModel" ({ cls := "MergeWorkbenchModel", name := "distance", desc := "(II)I" } : Jvm.MethodName) ({ cls := "MergeWorkbenchModel", name := "distance", desc := "(II)I" } : Jvm.MethodName)) ∈ lw_all := lw_g (lw_at lw_m15 203 rfl) rfl
theorem q3647 : (Jvm.Cond.code ({ cls := "MergeWorkbenchModel", name := "distance", desc := "(II)I" } : Jvm.MethodName) prog_22_method_32_code (5 : Nat) (Option.some Jvm.ClassFile.FieldType.int)) ∈ lw_all := lw_g (lw_at lw_m15 204 rfl) rfl
theorem q3648 : (Jvm.Cond.methodLink "MergeWorkbenchModel" (207 : Nat) ({ cls := "MergeWorkbenchModel", name := "takes", desc := "(I[I)I" } : Jvm.MethodName)) ∈ lw_all := lw_g (lw_at lw_m15 205 rfl) rfl
theorem q3649 : (Jvm.Cond.privateMethod ({ cls := "MergeWorkbenchModel", name := "takes", desc := "(I[I)I" } : Jvm.MethodName)) ∈ lw_tbl := lw_at lw_m15 206 rfl
theorem q3650 : (Jvm.Cond.instanceMethod ({ cls := "MergeWorkbenchModel", name := "takes", desc := "(I[I)I" } : Jvm.MethodName)) ∈ lw_all := lw_g (lw_at lw_m15 207 rfl) rfl
theorem q3651 : (Jvm.Cond.code ({ cls := "MergeWorkbenchModel", name := "takes", desc := "(I[I)I" } : Jvm.MethodName) prog_22_method_31_code (4 : Nat) (Option.some Jvm.ClassFile.FieldType.int)) ∈ lw_all := lw_g (lw_at lw_m15 208 rfl) rfl
theorem q3652 : (Jvm.Cond.methodLink "MergeWorkbenchModel" (185 : Nat) ({ cls := "MergeWorkbenchModel", name := "measures", desc := "([I[IIIII)V" } : Jvm.MethodName)) ∈ lw_all := lw_g (lw_at lw_m15 209 rfl) rfl
theorem q3653 : (Jvm.Cond.privateMethod ({ cls := "MergeWorkbenchModel", name := "measures", desc := "([I[IIIII)V" } : Jvm.MethodName)) ∈ lw_tbl := lw_at lw_m15 210 rfl
theorem q3654 : (Jvm.Cond.instanceMethod ({ cls := "MergeWorkbenchModel", name := "measures", desc := "([I[IIIII)V" } : Jvm.MethodName)) ∈ lw_all := lw_g (lw_at lw_m15 211 rfl) rfl
theorem q3655 : (Jvm.Cond.code ({ cls := "MergeWorkbenchModel", name := "measures", desc := "([I[IIIII)V" } : Jvm.MethodName) prog_22_method_26_code (10 : Nat) (Option.none : Option Jvm.ClassFile.FieldType)) ∈ lw_all := lw_g (lw_at lw_m15 212 rfl) rfl
theorem q3656 : (Jvm.Cond.methodLink "MergeWorkbenchModel" (178 : Nat) ({ cls := "MergeWorkbenchModel", name := "longestOf", desc := "(II)I" } : Jvm.MethodName)) ∈ lw_all := lw_g (lw_at lw_m15 213 rfl) rfl
theorem q3657 : (Jvm.Cond.privateMethod ({ cls := "MergeWorkbenchModel", name := "longestOf", desc := "(II)I" } : Jvm.MethodName)) ∈ lw_tbl := lw_at lw_m15 214 rfl
theorem q3658 : (Jvm.Cond.instanceMethod ({ cls := "MergeWorkbenchModel", name := "longestOf", desc := "(II)I" } : Jvm.MethodName)) ∈ lw_all := lw_g (lw_at lw_m15 215 rfl) rfl
theorem q3659 : (Jvm.Cond.code ({ cls := "MergeWorkbenchModel", name := "longestOf", desc := "(II)I" } : Jvm.MethodName) prog_22_method_25_code (3 : Nat) (Option.some Jvm.ClassFile.FieldType.int)) ∈ lw_all := lw_g (lw_at lw_m15 216 rfl) rfl
theorem q3660 : (Jvm.Cond.methodLink "MergeWorkbenchModel" (182 : Nat) ({ cls := "MergeWorkbenchModel", name := "most", desc := "(II)I" } : Jvm.MethodName)) ∈ lw_all := lw_g (lw_at lw_m15 217 rfl) rfl
theorem q3661 : (Jvm.Cond.static ({ cls := "MergeWorkbenchModel", name := "most", desc := "(II)I" } : Jvm.MethodName)) ∈ lw_all := lw_g (lw_at lw_m15 218 rfl) rfl
theorem q3662 : (Jvm.Cond.code ({ cls := "MergeWorkbenchModel", name := "most", desc := "(II)I" } : Jvm.MethodName) prog_22_method_24_code (2 : Nat) (Option.some Jvm.ClassFile.FieldType.int)) ∈ lw_all := lw_g (lw_at lw_m15 219 rfl) rfl
theorem q3664 : (Jvm.Cond.instanceMethod ({ cls := "MergeWorkbenchModel", name := "setMode", desc := "(I)I" } : Jvm.MethodName)) ∈ lw_all := lw_g (lw_at lw_m15 221 rfl) rfl
theorem q3665 : (Jvm.Cond.selects "MergeWorkbenchModel" ({ cls := "MergeWorkbenchModel", name := "setMode", desc := "(I)I" } : Jvm.MethodName) ({ cls := "MergeWorkbenchModel", name := "setMode", desc := "(I)I" } : Jvm.MethodName)) ∈ lw_all := lw_g (lw_at lw_m15 222 rfl) rfl
theorem q3666 : (Jvm.Cond.code ({ cls := "MergeWorkbenchModel", name := "setMode", desc := "(I)I" } : Jvm.MethodName) prog_22_method_33_code (3 : Nat) (Option.some Jvm.ClassFile.FieldType.int)) ∈ lw_all := lw_g (lw_at lw_m15 223 rfl) rfl
theorem q3668 : (Jvm.Cond.instanceMethod ({ cls := "MergeWorkbenchModel", name := "compare", desc := "(II)I" } : Jvm.MethodName)) ∈ lw_all := lw_g (lw_at lw_m15 225 rfl) rfl
theorem q3669 : (Jvm.Cond.selects "MergeWorkbenchModel" ({ cls := "MergeWorkbenchModel", name := "compare", desc := "(II)I" } : Jvm.MethodName) ({ cls := "MergeWorkbenchModel", name := "compare", desc := "(II)I" } : Jvm.MethodName)) ∈ lw_all := lw_g (lw_at lw_m15 226 rfl) rfl
theorem q3670 : (Jvm.Cond.code ({ cls := "MergeWorkbenchModel", name := "compare", desc := "(II)I" } : Jvm.MethodName) prog_22_method_36_code (3 : Nat) (Option.some Jvm.ClassFile.FieldType.int)) ∈ lw_all := lw_g (lw_at lw_m15 227 rfl) rfl
theorem q3671 : (Jvm.Cond.methodLink "MergeWorkbenchModel" (223 : Nat) ({ cls := "MergeWorkbenchModel", name := "aligns", desc := "([II[II[I)V" } : Jvm.MethodName)) ∈ lw_all := lw_g (lw_at lw_m15 228 rfl) rfl
theorem q3672 : (Jvm.Cond.privateMethod ({ cls := "MergeWorkbenchModel", name := "aligns", desc := "([II[II[I)V" } : Jvm.MethodName)) ∈ lw_tbl := lw_at lw_m15 229 rfl
theorem q3673 : (Jvm.Cond.instanceMethod ({ cls := "MergeWorkbenchModel", name := "aligns", desc := "([II[II[I)V" } : Jvm.MethodName)) ∈ lw_all := lw_g (lw_at lw_m15 230 rfl) rfl
theorem q3674 : (Jvm.Cond.code ({ cls := "MergeWorkbenchModel", name := "aligns", desc := "([II[II[I)V" } : Jvm.MethodName) prog_22_method_30_code (10 : Nat) (Option.none : Option Jvm.ClassFile.FieldType)) ∈ lw_all := lw_g (lw_at lw_m15 231 rfl) rfl
theorem q3675 : (Jvm.Cond.methodLink "MergeWorkbenchModel" (199 : Nat) ({ cls := "MergeWorkbenchModel", name := "tellCandidates", desc := "([II[II)V" } : Jvm.MethodName)) ∈ lw_all := lw_g (lw_at lw_m15 232 rfl) rfl
theorem q3676 : (Jvm.Cond.privateMethod ({ cls := "MergeWorkbenchModel", name := "tellCandidates", desc := "([II[II)V" } : Jvm.MethodName)) ∈ lw_tbl := lw_at lw_m15 233 rfl
theorem q3677 : (Jvm.Cond.instanceMethod ({ cls := "MergeWorkbenchModel", name := "tellCandidates", desc := "([II[II)V" } : Jvm.MethodName)) ∈ lw_all := lw_g (lw_at lw_m15 234 rfl) rfl
theorem q3678 : (Jvm.Cond.code ({ cls := "MergeWorkbenchModel", name := "tellCandidates", desc := "([II[II)V" } : Jvm.MethodName) prog_22_method_29_code (7 : Nat) (Option.none : Option Jvm.ClassFile.FieldType)) ∈ lw_all := lw_g (lw_at lw_m15 235 rfl) rfl
theorem q3679 : (Jvm.Cond.methodLink "MergeWorkbenchModel" (189 : Nat) ({ cls := "MergeWorkbenchModel", name := "occurs", desc := "([III)I" } : Jvm.MethodName)) ∈ lw_all := lw_g (lw_at lw_m15 236 rfl) rfl
theorem q3680 : (Jvm.Cond.static ({ cls := "MergeWorkbenchModel", name := "occurs", desc := "([III)I" } : Jvm.MethodName)) ∈ lw_all := lw_g (lw_at lw_m15 237 rfl) rfl
theorem q3681 : (Jvm.Cond.code ({ cls := "MergeWorkbenchModel", name := "occurs", desc := "([III)I" } : Jvm.MethodName) prog_22_method_28_code (5 : Nat) (Option.some Jvm.ClassFile.FieldType.int)) ∈ lw_all := lw_g (lw_at lw_m15 238 rfl) rfl
theorem q3682 : (Jvm.Cond.methodLink "MergeWorkbenchModel" (203 : Nat) ({ cls := "MergeWorkbenchModel", name := "pairs", desc := "([I[IIIII[I)V" } : Jvm.MethodName)) ∈ lw_all := lw_g (lw_at lw_m15 239 rfl) rfl
theorem q3683 : (Jvm.Cond.privateMethod ({ cls := "MergeWorkbenchModel", name := "pairs", desc := "([I[IIIII[I)V" } : Jvm.MethodName)) ∈ lw_tbl := lw_at lw_m16 0 rfl
theorem q3684 : (Jvm.Cond.instanceMethod ({ cls := "MergeWorkbenchModel", name := "pairs", desc := "([I[IIIII[I)V" } : Jvm.MethodName)) ∈ lw_all := lw_g (lw_at lw_m16 1 rfl) rfl
theorem q3685 : (Jvm.Cond.code ({ cls := "MergeWorkbenchModel", name := "pairs", desc := "([I[IIIII[I)V" } : Jvm.MethodName) prog_22_method_27_code (12 : Nat) (Option.none : Option Jvm.ClassFile.FieldType)) ∈ lw_all := lw_g (lw_at lw_m16 2 rfl) rfl
theorem q3686 : (Jvm.Cond.methodLink "MergeWorkbenchModel" (233 : Nat) ({ cls := "MergeWorkbenchModel", name := "tellParts", desc := "()V" } : Jvm.MethodName)) ∈ lw_all := lw_g (lw_at lw_m16 3 rfl) rfl
theorem q3687 : (Jvm.Cond.privateMethod ({ cls := "MergeWorkbenchModel", name := "tellParts", desc := "()V" } : Jvm.MethodName)) ∈ lw_tbl := lw_at lw_m16 4 rfl
theorem q3688 : (Jvm.Cond.instanceMethod ({ cls := "MergeWorkbenchModel", name := "tellParts", desc := "()V" } : Jvm.MethodName)) ∈ lw_all := lw_g (lw_at lw_m16 5 rfl) rfl
theorem q3689 : (Jvm.Cond.code ({ cls := "MergeWorkbenchModel", name := "tellParts", desc := "()V" } : Jvm.MethodName) prog_22_method_34_code (6 : Nat) (Option.none : Option Jvm.ClassFile.FieldType)) ∈ lw_all := lw_g (lw_at lw_m16 6 rfl) rfl
theorem q3690 : (Jvm.Cond.methodLink "MergeWorkbenchModel" (236 : Nat) ({ cls := "MergeWorkbenchModel", name := "pairMany", desc := "()I" } : Jvm.MethodName)) ∈ lw_all := lw_g (lw_at lw_m16 7 rfl) rfl
theorem q3691 : (Jvm.Cond.privateMethod ({ cls := "MergeWorkbenchModel", name := "pairMany", desc := "()I" } : Jvm.MethodName)) ∈ lw_tbl := lw_at lw_m16 8 rfl
theorem q3692 : (Jvm.Cond.instanceMethod ({ cls := "MergeWorkbenchModel", name := "pairMany", desc := "()I" } : Jvm.MethodName)) ∈ lw_all := lw_g (lw_at lw_m16 9 rfl) rfl
theorem q3693 : (Jvm.Cond.code ({ cls := "MergeWorkbenchModel", name := "pairMany", desc := "()I" } : Jvm.MethodName) prog_22_method_35_code (3 : Nat) (Option.some Jvm.ClassFile.FieldType.int)) ∈ lw_all := lw_g (lw_at lw_m16 10 rfl) rfl
theorem q3695 : (Jvm.Cond.instanceMethod ({ cls := "MergeWorkbenchModel", name := "partner", desc := "(I)I" } : Jvm.MethodName)) ∈ lw_all := lw_g (lw_at lw_m16 12 rfl) rfl
theorem q3696 : (Jvm.Cond.selects "MergeWorkbenchModel" ({ cls := "MergeWorkbenchModel", name := "partner", desc := "(I)I" } : Jvm.MethodName) ({ cls := "MergeWorkbenchModel", name := "partner", desc := "(I)I" } : Jvm.MethodName)) ∈ lw_all := lw_g (lw_at lw_m16 13 rfl) rfl
theorem q3697 : (Jvm.Cond.code ({ cls := "MergeWorkbenchModel", name := "partner", desc := "(I)I" } : Jvm.MethodName) prog_22_method_37_code (2 : Nat) (Option.some Jvm.ClassFile.FieldType.int)) ∈ lw_all := lw_g (lw_at lw_m16 14 rfl) rfl
theorem q3699 : (Jvm.Cond.instanceMethod ({ cls := "MergeWorkbenchModel", name := "anchors", desc := "()I" } : Jvm.MethodName)) ∈ lw_all := lw_g (lw_at lw_m16 16 rfl) rfl
theorem q3700 : (Jvm.Cond.selects "MergeWorkbenchModel" ({ cls := "MergeWorkbenchModel", name := "anchors", desc := "()I" } : Jvm.MethodName) ({ cls := "MergeWorkbenchModel", name := "anchors", desc := "()I" } : Jvm.MethodName)) ∈ lw_all := lw_g (lw_at lw_m16 17 rfl) rfl
theorem q3701 : (Jvm.Cond.code ({ cls := "MergeWorkbenchModel", name := "anchors", desc := "()I" } : Jvm.MethodName) prog_22_method_38_code (1 : Nat) (Option.some Jvm.ClassFile.FieldType.int)) ∈ lw_all := lw_g (lw_at lw_m16 18 rfl) rfl
theorem q3703 : (Jvm.Cond.instanceMethod ({ cls := "MergeWorkbenchModel", name := "differences", desc := "()I" } : Jvm.MethodName)) ∈ lw_all := lw_g (lw_at lw_m16 20 rfl) rfl
theorem q3704 : (Jvm.Cond.selects "MergeWorkbenchModel" ({ cls := "MergeWorkbenchModel", name := "differences", desc := "()I" } : Jvm.MethodName) ({ cls := "MergeWorkbenchModel", name := "differences", desc := "()I" } : Jvm.MethodName)) ∈ lw_all := lw_g (lw_at lw_m16 21 rfl) rfl
theorem q3705 : (Jvm.Cond.code ({ cls := "MergeWorkbenchModel", name := "differences", desc := "()I" } : Jvm.MethodName) prog_22_method_39_code (1 : Nat) (Option.some Jvm.ClassFile.FieldType.int)) ∈ lw_all := lw_g (lw_at lw_m16 22 rfl) rfl
theorem q3707 : (Jvm.Cond.instanceMethod ({ cls := "MergeWorkbenchModel", name := "difference", desc := "(II)I" } : Jvm.MethodName)) ∈ lw_all := lw_g (lw_at lw_m16 24 rfl) rfl
theorem q3708 : (Jvm.Cond.selects "MergeWorkbenchModel" ({ cls := "MergeWorkbenchModel", name := "difference", desc := "(II)I" } : Jvm.MethodName) ({ cls := "MergeWorkbenchModel", name := "difference", desc := "(II)I" } : Jvm.MethodName)) ∈ lw_all := lw_g (lw_at lw_m16 25 rfl) rfl
theorem q3709 : (Jvm.Cond.code ({ cls := "MergeWorkbenchModel", name := "difference", desc := "(II)I" } : Jvm.MethodName) prog_22_method_40_code (3 : Nat) (Option.some Jvm.ClassFile.FieldType.int)) ∈ lw_all := lw_g (lw_at lw_m16 26 rfl) rfl
theorem q3711 : (Jvm.Cond.instanceMethod ({ cls := "MergeWorkbenchModel", name := "step", desc := "(I)I" } : Jvm.MethodName)) ∈ lw_all := lw_g (lw_at lw_m16 28 rfl) rfl
theorem q3712 : (Jvm.Cond.selects "MergeWorkbenchModel" ({ cls := "MergeWorkbenchModel", name := "step", desc := "(I)I" } : Jvm.MethodName) ({ cls := "MergeWorkbenchModel", name := "step", desc := "(I)I" } : Jvm.MethodName)) ∈ lw_all := lw_g (lw_at lw_m16 29 rfl) rfl
theorem q3713 : (Jvm.Cond.code ({ cls := "MergeWorkbenchModel", name := "step", desc := "(I)I" } : Jvm.MethodName) prog_22_method_41_code (8 : Nat) (Option.some Jvm.ClassFile.FieldType.int)) ∈ lw_all := lw_g (lw_at lw_m16 30 rfl) rfl
theorem q3715 : (Jvm.Cond.instanceMethod ({ cls := "MergeWorkbenchModel", name := "similarity", desc := "()D" } : Jvm.MethodName)) ∈ lw_all := lw_g (lw_at lw_m16 32 rfl) rfl
theorem q3716 : (Jvm.Cond.selects "MergeWorkbenchModel" ({ cls := "MergeWorkbenchModel", name := "similarity", desc := "()D" } : Jvm.MethodName) ({ cls := "MergeWorkbenchModel", name := "similarity", desc := "()D" } : Jvm.MethodName)) ∈ lw_all := lw_g (lw_at lw_m16 33 rfl) rfl
theorem q3717 : (Jvm.Cond.code ({ cls := "MergeWorkbenchModel", name := "similarity", desc := "()D" } : Jvm.MethodName) prog_22_method_42_code (1 : Nat) (Option.some Jvm.ClassFile.FieldType.double)) ∈ lw_all := lw_g (lw_at lw_m16 34 rfl) rfl
theorem q3719 : (Jvm.Cond.instanceMethod ({ cls := "MergeWorkbenchModel", name := "findMoves", desc := "(I)I" } : Jvm.MethodName)) ∈ lw_all := lw_g (lw_at lw_m16 36 rfl) rfl
theorem q3720 : (Jvm.Cond.selects "MergeWorkbenchModel" ({ cls := "MergeWorkbenchModel", name := "findMoves", desc := "(I)I" } : Jvm.MethodName) ({ cls := "MergeWorkbenchModel", name := "findMoves", desc := "(I)I" } : Jvm.MethodName)) ∈ lw_all := lw_g (lw_at lw_m16 37 rfl) rfl
theorem q3721 : (Jvm.Cond.code ({ cls := "MergeWorkbenchModel", name := "findMoves", desc := "(I)I" } : Jvm.MethodName) prog_22_method_45_code (8 : Nat) (Option.some Jvm.ClassFile.FieldType.int)) ∈ lw_all := lw_g (lw_at lw_m16 38 rfl) rfl
theorem q3722 : (Jvm.Cond.methodLink "MergeWorkbenchModel" (239 : Nat) ({ cls := "MergeWorkbenchModel", name := "marks", desc := "(III)V" } : Jvm.MethodName)) ∈ lw_all := lw_g (lw_at lw_m16 39 rfl) rfl
theorem q3723 : (Jvm.Cond.privateMethod ({ cls := "MergeWorkbenchModel", name := "marks", desc := "(III)V" } : Jvm.MethodName)) ∈ lw_tbl := lw_at lw_m16 40 rfl
theorem q3724 : (Jvm.Cond.instanceMethod ({ cls := "MergeWorkbenchModel", name := "marks", desc := "(III)V" } : Jvm.MethodName)) ∈ lw_all := lw_g (lw_at lw_m16 41 rfl) rfl
theorem q3725 : (Jvm.Cond.code ({ cls := "MergeWorkbenchModel", name := "marks", desc := "(III)V" } : Jvm.MethodName) prog_22_method_44_code (5 : Nat) (Option.none : Option Jvm.ClassFile.FieldType)) ∈ lw_all := lw_g (lw_at lw_m16 42 rfl) rfl
theorem q3726 : (Jvm.Cond.methodLink "MergeWorkbenchModel" (243 : Nat) ({ cls := "MergeWorkbenchModel", name := "lengthFrom", desc := "(II)I" } : Jvm.MethodName)) ∈ lw_all := lw_g (lw_at lw_m16 43 rfl) rfl
theorem q3727 : (Jvm.Cond.privateMethod ({ cls := "MergeWorkbenchModel", name := "lengthFrom", desc := "(II)I" } : Jvm.MethodName)) ∈ lw_tbl := lw_at lw_m16 44 rfl
theorem q3728 : (Jvm.Cond.instanceMethod ({ cls := "MergeWorkbenchModel", name := "lengthFrom", desc := "(II)I" } : Jvm.MethodName)) ∈ lw_all := lw_g (lw_at lw_m16 45 rfl) rfl
theorem q3729 : (Jvm.Cond.code ({ cls := "MergeWorkbenchModel", name := "lengthFrom", desc := "(II)I" } : Jvm.MethodName) prog_22_method_43_code (4 : Nat) (Option.some Jvm.ClassFile.FieldType.int)) ∈ lw_all := lw_g (lw_at lw_m16 46 rfl) rfl
theorem q3731 : (Jvm.Cond.instanceMethod ({ cls := "MergeWorkbenchModel", name := "move", desc := "(II)I" } : Jvm.MethodName)) ∈ lw_all := lw_g (lw_at lw_m16 48 rfl) rfl
theorem q3732 : (Jvm.Cond.selects "MergeWorkbenchModel" ({ cls := "MergeWorkbenchModel", name := "move", desc := "(II)I" } : Jvm.MethodName) ({ cls := "MergeWorkbenchModel", name := "move", desc := "(II)I" } : Jvm.MethodName)) ∈ lw_all := lw_g (lw_at lw_m16 49 rfl) rfl
theorem q3733 : (Jvm.Cond.code ({ cls := "MergeWorkbenchModel", name := "move", desc := "(II)I" } : Jvm.MethodName) prog_22_method_46_code (3 : Nat) (Option.some Jvm.ClassFile.FieldType.int)) ∈ lw_all := lw_g (lw_at lw_m16 50 rfl) rfl
theorem q3735 : (Jvm.Cond.instanceMethod ({ cls := "MergeWorkbenchModel", name := "setShrinking", desc := "(Z)Z" } : Jvm.MethodName)) ∈ lw_all := lw_g (lw_at lw_m16 52 rfl) rfl
theorem q3736 : (Jvm.Cond.selects "MergeWorkbenchModel" ({ cls := "MergeWorkbenchModel", name := "setShrinking", desc := "(Z)Z" } : Jvm.MethodName) ({ cls := "MergeWorkbenchModel", name := "setShrinking", desc := "(Z)Z" } : Jvm.MethodName)) ∈ lw_all := lw_g (lw_at lw_m16 53 rfl) rfl
theorem q3737 : (Jvm.Cond.code ({ cls := "MergeWorkbenchModel", name := "setShrinking", desc := "(Z)Z" } : Jvm.MethodName) prog_22_method_47_code (3 : Nat) (Option.some Jvm.ClassFile.FieldType.boolean)) ∈ lw_all := lw_g (lw_at lw_m16 54 rfl) rfl
theorem q3739 : (Jvm.Cond.instanceMethod ({ cls := "MergeWorkbenchModel", name := "merge", desc := "(III)I" } : Jvm.MethodName)) ∈ lw_all := lw_g (lw_at lw_m16 56 rfl) rfl
theorem q3740 : (Jvm.Cond.selects "MergeWorkbenchModel" ({ cls := "MergeWorkbenchModel", name := "merge", desc := "(III)I" } : Jvm.MethodName) ({ cls := "MergeWorkbenchModel", name := "merge", desc := "(III)I" } : Jvm.MethodName)) ∈ lw_all := lw_g (lw_at lw_m16 57 rfl) rfl
theorem q3741 : (Jvm.Cond.code ({ cls := "MergeWorkbenchModel", name := "merge", desc := "(III)I" } : Jvm.MethodName) prog_22_method_52_code (13 : Nat) (Option.some Jvm.ClassFile.FieldType.int)) ∈ lw_all := lw_g (lw_at lw_m16 58 rfl) rfl
theorem q3742 : (Jvm.Cond.methodLink "MergeWorkbenchModel" (276 : Nat) ({ cls := "MergeWorkbenchModel", name := "regionComes", desc := "(IIIIII)V" } : Jvm.MethodName)) ∈ lw_all := lw_g (lw_at lw_m16 59 rfl) rfl
theorem q3743 : (Jvm.Cond.privateMethod ({ cls := "MergeWorkbenchModel", name := "regionComes", desc := "(IIIIII)V" } : Jvm.MethodName)) ∈ lw_tbl := lw_at lw_m16 60 rfl
theorem q3744 : (Jvm.Cond.instanceMethod ({ cls := "MergeWorkbenchModel", name := "regionComes", desc := "(IIIIII)V" } : Jvm.MethodName)) ∈ lw_all := lw_g (lw_at lw_m16 61 rfl) rfl
theorem q3745 : (Jvm.Cond.code ({ cls := "MergeWorkbenchModel", name := "regionComes", desc := "(IIIIII)V" } : Jvm.MethodName) prog_22_method_51_code (7 : Nat) (Option.none : Option Jvm.ClassFile.FieldType)) ∈ lw_all := lw_g (lw_at lw_m16 62 rfl) rfl
theorem q3746 : (Jvm.Cond.methodLink "MergeWorkbenchModel" (256 : Nat) ({ cls := "MergeWorkbenchModel", name := "alike", desc := "([III[III)Z" } : Jvm.MethodName)) ∈ lw_all := lw_g (lw_at lw_m16 63 rfl) rfl
theorem q3747 : (Jvm.Cond.static ({ cls := "MergeWorkbenchModel", name := "alike", desc := "([III[III)Z" } : Jvm.MethodName)) ∈ lw_all := lw_g (lw_at lw_m16 64 rfl) rfl
theorem q3748 : (Jvm.Cond.code ({ cls := "MergeWorkbenchModel", name := "alike", desc := "([III[III)Z" } : Jvm.MethodName) prog_22_method_48_code (8 : Nat) (Option.some Jvm.ClassFile.FieldType.boolean)) ∈ lw_all := lw_g (lw_at lw_m16 65 rfl) rfl
theorem q3749 : (Jvm.Cond.methodLink "MergeWorkbenchModel" (252 : Nat) ({ cls := "MergeWorkbenchModel", name := "chunkComes", desc := "(IIIIIII)V" } : Jvm.MethodName)) ∈ lw_all := lw_g (lw_at lw_m16 66 rfl) rfl
theorem q3750 : (Jvm.Cond.privateMethod ({ cls := "MergeWorkbenchModel", name := "chunkComes", desc := "(IIIIIII)V" } : Jvm.MethodName)) ∈ lw_tbl := lw_at lw_m16 67 rfl
theorem q3751 : (Jvm.Cond.instanceMethod ({ cls := "MergeWorkbenchModel", name := "chunkComes", desc := "(IIIIIII)V" } : Jvm.MethodName)) ∈ lw_all := lw_g (lw_at lw_m16 68 rfl) rfl
theorem q3752 : (Jvm.Cond.code ({ cls := "MergeWorkbenchModel", name := "chunkComes", desc := "(IIIIIII)V" } : Jvm.MethodName) prog_22_method_49_code (9 : Nat) (Option.none : Option Jvm.ClassFile.FieldType)) ∈ lw_all := lw_g (lw_at lw_m16 69 rfl) rfl
theorem q3753 : (Jvm.Cond.methodLink "MergeWorkbenchModel" (260 : Nat) ({ cls := "MergeWorkbenchModel", name := "conflictComes", desc := "(IIIIII)V" } : Jvm.MethodName)) ∈ lw_all := lw_g (lw_at lw_m16 70 rfl) rfl
theorem q3754 : (Jvm.Cond.privateMethod ({ cls := "MergeWorkbenchModel", name := "conflictComes", desc := "(IIIIII)V" } : Jvm.MethodName)) ∈ lw_tbl := lw_at lw_m16 71 rfl
theorem q3755 : (Jvm.Cond.instanceMethod ({ cls := "MergeWorkbenchModel", name := "conflictComes", desc := "(IIIIII)V" } : Jvm.MethodName)) ∈ lw_all := lw_g (lw_at lw_m16 72 rfl) rfl
theorem q3756 : (Jvm.Cond.code ({ cls := "MergeWorkbenchModel", name := "conflictComes", desc := "(IIIIII)V" } : Jvm.MethodName) prog_22_method_50_code (9 : Nat) (Option.none : Option Jvm.ClassFile.FieldType)) ∈ lw_all := lw_g (lw_at lw_m16 73 rfl) rfl
theorem q3758 : (Jvm.Cond.instanceMethod ({ cls := "MergeWorkbenchModel", name := "chunks", desc := "()I" } : Jvm.MethodName)) ∈ lw_all := lw_g (lw_at lw_m16 75 rfl) rfl
theorem q3759 : (Jvm.Cond.selects "MergeWorkbenchModel" ({ cls := "MergeWorkbenchModel", name := "chunks", desc := "()I" } : Jvm.MethodName) ({ cls := "MergeWorkbenchModel", name := "chunks", desc := "()I" } : Jvm.MethodName)) ∈ lw_all := lw_g (lw_at lw_m16 76 rfl) rfl
theorem q3760 : (Jvm.Cond.code ({ cls := "MergeWorkbenchModel", name := "chunks", desc := "()I" } : Jvm.MethodName) prog_22_method_53_code (1 : Nat) (Option.some Jvm.ClassFile.FieldType.int)) ∈ lw_all := lw_g (lw_at lw_m16 77 rfl) rfl
theorem q3762 : (Jvm.Cond.instanceMethod ({ cls := "MergeWorkbenchModel", name := "chunk", desc := "(II)I" } : Jvm.MethodName)) ∈ lw_all := lw_g (lw_at lw_m16 79 rfl) rfl
theorem q3763 : (Jvm.Cond.selects "MergeWorkbenchModel" ({ cls := "MergeWorkbenchModel", name := "chunk", desc := "(II)I" } : Jvm.MethodName) ({ cls := "MergeWorkbenchModel", name := "chunk", desc := "(II)I" } : Jvm.MethodName)) ∈ lw_all := lw_g (lw_at lw_m16 80 rfl) rfl
theorem q3764 : (Jvm.Cond.code ({ cls := "MergeWorkbenchModel", name := "chunk", desc := "(II)I" } : Jvm.MethodName) prog_22_method_54_code (3 : Nat) (Option.some Jvm.ClassFile.FieldType.int)) ∈ lw_all := lw_g (lw_at lw_m16 81 rfl) rfl
theorem q3766 : (Jvm.Cond.instanceMethod ({ cls := "MergeWorkbenchModel", name := "resolve", desc := "(II)I" } : Jvm.MethodName)) ∈ lw_all := lw_g (lw_at lw_m16 83 rfl) rfl
theorem q3767 : (Jvm.Cond.selects "MergeWorkbenchModel" ({ cls := "MergeWorkbenchModel", name := "resolve", desc := "(II)I" } : Jvm.MethodName) ({ cls := "MergeWorkbenchModel", name := "resolve", desc := "(II)I" } : Jvm.MethodName)) ∈ lw_all := lw_g (lw_at lw_m16 84 rfl) rfl
theorem q3768 : (Jvm.Cond.code ({ cls := "MergeWorkbenchModel", name := "resolve", desc := "(II)I" } : Jvm.MethodName) prog_22_method_59_code (5 : Nat) (Option.some Jvm.ClassFile.FieldType.int)) ∈ lw_all := lw_g (lw_at lw_m16 85 rfl) rfl
theorem q3769 : (Jvm.Cond.methodLink "MergeWorkbenchModel" (286 : Nat) ({ cls := "MergeWorkbenchModel", name := "resolvedOut", desc := "(II)V" } : Jvm.MethodName)) ∈ lw_all := lw_g (lw_at lw_m16 86 rfl) rfl
theorem q3770 : (Jvm.Cond.privateMethod ({ cls := "MergeWorkbenchModel", name := "resolvedOut", desc := "(II)V" } : Jvm.MethodName)) ∈ lw_tbl := lw_at lw_m16 87 rfl
theorem q3771 : (Jvm.Cond.instanceMethod ({ cls := "MergeWorkbenchModel", name := "resolvedOut", desc := "(II)V" } : Jvm.MethodName)) ∈ lw_all := lw_g (lw_at lw_m16 88 rfl) rfl
theorem q3772 : (Jvm.Cond.code ({ cls := "MergeWorkbenchModel", name := "resolvedOut", desc := "(II)V" } : Jvm.MethodName) prog_22_method_57_code (3 : Nat) (Option.none : Option Jvm.ClassFile.FieldType)) ∈ lw_all := lw_g (lw_at lw_m16 89 rfl) rfl
theorem q3773 : (Jvm.Cond.methodLink "MergeWorkbenchModel" (279 : Nat) ({ cls := "MergeWorkbenchModel", name := "mark", desc := "(I)V" } : Jvm.MethodName)) ∈ lw_all := lw_g (lw_at lw_m16 90 rfl) rfl
theorem q3774 : (Jvm.Cond.privateMethod ({ cls := "MergeWorkbenchModel", name := "mark", desc := "(I)V" } : Jvm.MethodName)) ∈ lw_tbl := lw_at lw_m16 91 rfl
theorem q3775 : (Jvm.Cond.instanceMethod ({ cls := "MergeWorkbenchModel", name := "mark", desc := "(I)V" } : Jvm.MethodName)) ∈ lw_all := lw_g (lw_at lw_m16 92 rfl) rfl
theorem q3776 : (Jvm.Cond.code ({ cls := "MergeWorkbenchModel", name := "mark", desc := "(I)V" } : Jvm.MethodName) prog_22_method_56_code (2 : Nat) (Option.none : Option Jvm.ClassFile.FieldType)) ∈ lw_all := lw_g (lw_at lw_m16 93 rfl) rfl
theorem q3777 : (Jvm.Cond.methodLink "MergeWorkbenchModel" (282 : Nat) ({ cls := "MergeWorkbenchModel", name := "goesOut", desc := "([III)V" } : Jvm.MethodName)) ∈ lw_all := lw_g (lw_at lw_m16 94 rfl) rfl
theorem q3778 : (Jvm.Cond.privateMethod ({ cls := "MergeWorkbenchModel", name := "goesOut", desc := "([III)V" } : Jvm.MethodName)) ∈ lw_tbl := lw_at lw_m16 95 rfl
theorem q3779 : (Jvm.Cond.instanceMethod ({ cls := "MergeWorkbenchModel", name := "goesOut", desc := "([III)V" } : Jvm.MethodName)) ∈ lw_all := lw_g (lw_at lw_m16 96 rfl) rfl
theorem q3780 : (Jvm.Cond.code ({ cls := "MergeWorkbenchModel", name := "goesOut", desc := "([III)V" } : Jvm.MethodName) prog_22_method_55_code (5 : Nat) (Option.none : Option Jvm.ClassFile.FieldType)) ∈ lw_all := lw_g (lw_at lw_m16 97 rfl) rfl
theorem q3782 : (Jvm.Cond.instanceMethod ({ cls := "MergeWorkbenchModel", name := "unresolved", desc := "()I" } : Jvm.MethodName)) ∈ lw_all := lw_g (lw_at lw_m16 99 rfl) rfl
theorem q3783 : (Jvm.Cond.selects "MergeWorkbenchModel" ({ cls := "MergeWorkbenchModel", name := "unresolved", desc := "()I" } : Jvm.MethodName) ({ cls := "MergeWorkbenchModel", name := "unresolved", desc := "()I" } : Jvm.MethodName)) ∈ lw_all := lw_g (lw_at lw_m16 100 rfl) rfl
theorem q3784 : (Jvm.Cond.code ({ cls := "MergeWorkbenchModel", name := "unresolved", desc := "()I" } : Jvm.MethodName) prog_22_method_61_code (1 : Nat) (Option.some Jvm.ClassFile.FieldType.int)) ∈ lw_all := lw_g (lw_at lw_m16 101 rfl) rfl
theorem q3785 : (Jvm.Cond.methodLink "MergeWorkbenchModel" (290 : Nat) ({ cls := "MergeWorkbenchModel", name := "openConflicts", desc := "()I" } : Jvm.MethodName)) ∈ lw_all := lw_g (lw_at lw_m16 102 rfl) rfl
theorem q3786 : (Jvm.Cond.privateMethod ({ cls := "MergeWorkbenchModel", name := "openConflicts", desc := "()I" } : Jvm.MethodName)) ∈ lw_tbl := lw_at lw_m16 103 rfl
theorem q3787 : (Jvm.Cond.instanceMethod ({ cls := "MergeWorkbenchModel", name := "openConflicts", desc := "()I" } : Jvm.MethodName)) ∈ lw_all := lw_g (lw_at lw_m16 104 rfl) rfl
theorem q3788 : (Jvm.Cond.code ({ cls := "MergeWorkbenchModel", name := "openConflicts", desc := "()I" } : Jvm.MethodName) prog_22_method_60_code (3 : Nat) (Option.some Jvm.ClassFile.FieldType.int)) ∈ lw_all := lw_g (lw_at lw_m16 105 rfl) rfl
theorem q3790 : (Jvm.Cond.instanceMethod ({ cls := "MergeWorkbenchModel", name := "mergedLength", desc := "()I" } : Jvm.MethodName)) ∈ lw_all := lw_g (lw_at lw_m16 107 rfl) rfl
theorem q3791 : (Jvm.Cond.selects "MergeWorkbenchModel" ({ cls := "MergeWorkbenchModel", name := "mergedLength", desc := "()I" } : Jvm.MethodName) ({ cls := "MergeWorkbenchModel", name := "mergedLength", desc := "()I" } : Jvm.MethodName)) ∈ lw_all := lw_g (lw_at lw_m16 108 rfl) rfl
theorem q3792 : (Jvm.Cond.code ({ cls := "MergeWorkbenchModel", name := "mergedLength", desc := "()I" } : Jvm.MethodName) prog_22_method_62_code (1 : Nat) (Option.some Jvm.ClassFile.FieldType.int)) ∈ lw_all := lw_g (lw_at lw_m16 109 rfl) rfl
theorem q3793 : (Jvm.Cond.methodLink "MergeWorkbenchModel" (293 : Nat) ({ cls := "MergeWorkbenchModel", name := "tellMerged", desc := "()V" } : Jvm.MethodName)) ∈ lw_all := lw_g (lw_at lw_m16 110 rfl) rfl
theorem q3794 : (Jvm.Cond.privateMethod ({ cls := "MergeWorkbenchModel", name := "tellMerged", desc := "()V" } : Jvm.MethodName)) ∈ lw_tbl := lw_at lw_m16 111 rfl
theorem q3795 : (Jvm.Cond.instanceMethod ({ cls := "MergeWorkbenchModel", name := "tellMerged", desc := "()V" } : Jvm.MethodName)) ∈ lw_all := lw_g (lw_at lw_m16 112 rfl) rfl
theorem q3796 : (Jvm.Cond.code ({ cls := "MergeWorkbenchModel", name := "tellMerged", desc := "()V" } : Jvm.MethodName) prog_22_method_58_code (4 : Nat) (Option.none : Option Jvm.ClassFile.FieldType)) ∈ lw_all := lw_g (lw_at lw_m16 113 rfl) rfl
theorem q3798 : (Jvm.Cond.instanceMethod ({ cls := "MergeWorkbenchModel", name := "merged", desc := "(I)I" } : Jvm.MethodName)) ∈ lw_all := lw_g (lw_at lw_m16 115 rfl) rfl
theorem q3799 : (Jvm.Cond.selects "MergeWorkbenchModel" ({ cls := "MergeWorkbenchModel", name := "merged", desc := "(I)I" } : Jvm.MethodName) ({ cls := "MergeWorkbenchModel", name := "merged", desc := "(I)I" } : Jvm.MethodName)) ∈ lw_all := lw_g (lw_at lw_m16 116 rfl) rfl
theorem q3800 : (Jvm.Cond.code ({ cls := "MergeWorkbenchModel", name := "merged", desc := "(I)I" } : Jvm.MethodName) prog_22_method_63_code (2 : Nat) (Option.some Jvm.ClassFile.FieldType.int)) ∈ lw_all := lw_g (lw_at lw_m16 117 rfl) rfl
theorem q3802 : (Jvm.Cond.instanceMethod ({ cls := "MergeWorkbenchModel", name := "accept", desc := "(I)I" } : Jvm.MethodName)) ∈ lw_all := lw_g (lw_at lw_m16 119 rfl) rfl
theorem q3803 : (Jvm.Cond.selects "MergeWorkbenchModel" ({ cls := "MergeWorkbenchModel", name := "accept", desc := "(I)I" } : Jvm.MethodName) ({ cls := "MergeWorkbenchModel", name := "accept", desc := "(I)I" } : Jvm.MethodName)) ∈ lw_all := lw_g (lw_at lw_m16 120 rfl) rfl
theorem q3804 : (Jvm.Cond.code ({ cls := "MergeWorkbenchModel", name := "accept", desc := "(I)I" } : Jvm.MethodName) prog_22_method_64_code (2 : Nat) (Option.some Jvm.ClassFile.FieldType.int)) ∈ lw_all := lw_g (lw_at lw_m16 121 rfl) rfl
theorem q3806 : (Jvm.Cond.instanceMethod ({ cls := "MergeWorkbenchModel", name := "makePatch", desc := "(I)I" } : Jvm.MethodName)) ∈ lw_all := lw_g (lw_at lw_m16 123 rfl) rfl
theorem q3807 : (Jvm.Cond.selects "MergeWorkbenchModel" ({ cls := "MergeWorkbenchModel", name := "makePatch", desc := "(I)I" } : Jvm.MethodName) ({ cls := "MergeWorkbenchModel", name := "makePatch", desc := "(I)I" } : Jvm.MethodName)) ∈ lw_all := lw_g (lw_at lw_m16 124 rfl) rfl
theorem q3808 : (Jvm.Cond.code ({ cls := "MergeWorkbenchModel", name := "makePatch", desc := "(I)I" } : Jvm.MethodName) prog_22_method_66_code (7 : Nat) (Option.some Jvm.ClassFile.FieldType.int)) ∈ lw_all := lw_g (lw_at lw_m16 125 rfl) rfl
theorem q3809 : (Jvm.Cond.methodLink "MergeWorkbenchModel" (305 : Nat) ({ cls := "MergeWorkbenchModel", name := "least", desc := "(II)I" } : Jvm.MethodName)) ∈ lw_all := lw_g (lw_at lw_m16 126 rfl) rfl
theorem q3810 : (Jvm.Cond.static ({ cls := "MergeWorkbenchModel", name := "least", desc := "(II)I" } : Jvm.MethodName)) ∈ lw_all := lw_g (lw_at lw_m16 127 rfl) rfl
theorem q3811 : (Jvm.Cond.code ({ cls := "MergeWorkbenchModel", name := "least", desc := "(II)I" } : Jvm.MethodName) prog_22_method_65_code (2 : Nat) (Option.some Jvm.ClassFile.FieldType.int)) ∈ lw_all := lw_g (lw_at lw_m16 128 rfl) rfl
theorem q3813 : (Jvm.Cond.instanceMethod ({ cls := "MergeWorkbenchModel", name := "hunk", desc := "(II)I" } : Jvm.MethodName)) ∈ lw_all := lw_g (lw_at lw_m16 130 rfl) rfl
theorem q3814 : (Jvm.Cond.selects "MergeWorkbenchModel" ({ cls := "MergeWorkbenchModel", name := "hunk", desc := "(II)I" } : Jvm.MethodName) ({ cls := "MergeWorkbenchModel", name := "hunk", desc := "(II)I" } : Jvm.MethodName)) ∈ lw_all := lw_g (lw_at lw_m16 131 rfl) rfl
theorem q3815 : (Jvm.Cond.code ({ cls := "MergeWorkbenchModel", name := "hunk", desc := "(II)I" } : Jvm.MethodName) prog_22_method_67_code (3 : Nat) (Option.some Jvm.ClassFile.FieldType.int)) ∈ lw_all := lw_g (lw_at lw_m16 132 rfl) rfl
theorem q3817 : (Jvm.Cond.instanceMethod ({ cls := "MergeWorkbenchModel", name := "apply", desc := "(IIZ)I" } : Jvm.MethodName)) ∈ lw_all := lw_g (lw_at lw_m16 134 rfl) rfl
theorem q3818 : (Jvm.Cond.selects "MergeWorkbenchModel" ({ cls := "MergeWorkbenchModel", name := "apply", desc := "(IIZ)I" } : Jvm.MethodName) ({ cls := "MergeWorkbenchModel", name := "apply", desc := "(IIZ)I" } : Jvm.MethodName)) ∈ lw_all := lw_g (lw_at lw_m16 135 rfl) rfl
theorem q3819 : (Jvm.Cond.code ({ cls := "MergeWorkbenchModel", name := "apply", desc := "(IIZ)I" } : Jvm.MethodName) prog_22_method_71_code (8 : Nat) (Option.some Jvm.ClassFile.FieldType.int)) ∈ lw_all := lw_g (lw_at lw_m16 136 rfl) rfl
theorem q3820 : (Jvm.Cond.methodLink "MergeWorkbenchModel" (321 : Nat) ({ cls := "MergeWorkbenchModel", name := "applies", desc := "(IIIZ)Z" } : Jvm.MethodName)) ∈ lw_all := lw_g (lw_at lw_m16 137 rfl) rfl
theorem q3821 : (Jvm.Cond.privateMethod ({ cls := "MergeWorkbenchModel", name := "applies", desc := "(IIIZ)Z" } : Jvm.MethodName)) ∈ lw_tbl := lw_at lw_m16 138 rfl
theorem q3822 : (Jvm.Cond.instanceMethod ({ cls := "MergeWorkbenchModel", name := "applies", desc := "(IIIZ)Z" } : Jvm.MethodName)) ∈ lw_all := lw_g (lw_at lw_m16 139 rfl) rfl
theorem q3823 : (Jvm.Cond.code ({ cls := "MergeWorkbenchModel", name := "applies", desc := "(IIIZ)Z" } : Jvm.MethodName) prog_22_method_70_code (16 : Nat) (Option.some Jvm.ClassFile.FieldType.boolean)) ∈ lw_all := lw_g (lw_at lw_m16 140 rfl) rfl
theorem q3824 : (Jvm.Cond.methodLink "MergeWorkbenchModel" (314 : Nat) ({ cls := "MergeWorkbenchModel", name := "fits", desc := "(II[III)Z" } : Jvm.MethodName)) ∈ lw_all := lw_g (lw_at lw_m16 141 rfl) rfl
theorem q3825 : (Jvm.Cond.privateMethod ({ cls := "MergeWorkbenchModel", name := "fits", desc := "(II[III)Z" } : Jvm.MethodName)) ∈ lw_tbl := lw_at lw_m16 142 rfl
theorem q3826 : (Jvm.Cond.instanceMethod ({ cls := "MergeWorkbenchModel", name := "fits", desc := "(II[III)Z" } : Jvm.MethodName)) ∈ lw_all := lw_g (lw_at lw_m16 143 rfl) rfl
theorem q3827 : (Jvm.Cond.code ({ cls := "MergeWorkbenchModel", name := "fits", desc := "(II[III)Z" } : Jvm.MethodName) prog_22_method_68_code (8 : Nat) (Option.some Jvm.ClassFile.FieldType.boolean)) ∈ lw_all := lw_g (lw_at lw_m16 144 rfl) rfl
theorem q3828 : (Jvm.Cond.methodLink "MergeWorkbenchModel" (318 : Nat) ({ cls := "MergeWorkbenchModel", name := "goesOutDocument", desc := "(III)V" } : Jvm.MethodName)) ∈ lw_all := lw_g (lw_at lw_m16 145 rfl) rfl
theorem q3829 : (Jvm.Cond.privateMethod ({ cls := "MergeWorkbenchModel", name := "goesOutDocument", desc := "(III)V" } : Jvm.MethodName)) ∈ lw_tbl := lw_at lw_m16 146 rfl
theorem q3830 : (Jvm.Cond.instanceMethod ({ cls := "MergeWorkbenchModel", name := "goesOutDocument", desc := "(III)V" } : Jvm.MethodName)) ∈ lw_all := lw_g (lw_at lw_m16 147 rfl) rfl
theorem q3831 : (Jvm.Cond.code ({ cls := "MergeWorkbenchModel", name := "goesOutDocument", desc := "(III)V" } : Jvm.MethodName) prog_22_method_69_code (5 : Nat) (Option.none : Option Jvm.ClassFile.FieldType)) ∈ lw_all := lw_g (lw_at lw_m16 148 rfl) rfl
theorem q3833 : (Jvm.Cond.instanceMethod ({ cls := "MergeWorkbenchModel", name := "outcome", desc := "(II)I" } : Jvm.MethodName)) ∈ lw_all := lw_g (lw_at lw_m16 150 rfl) rfl
theorem q3834 : (Jvm.Cond.selects "MergeWorkbenchModel" ({ cls := "MergeWorkbenchModel", name := "outcome", desc := "(II)I" } : Jvm.MethodName) ({ cls := "MergeWorkbenchModel", name := "outcome", desc := "(II)I" } : Jvm.MethodName)) ∈ lw_all := lw_g (lw_at lw_m16 151 rfl) rfl
theorem q3835 : (Jvm.Cond.code ({ cls := "MergeWorkbenchModel", name := "outcome", desc := "(II)I" } : Jvm.MethodName) prog_22_method_72_code (3 : Nat) (Option.some Jvm.ClassFile.FieldType.int)) ∈ lw_all := lw_g (lw_at lw_m16 152 rfl) rfl
theorem q3837 : (Jvm.Cond.instanceMethod ({ cls := "MergeWorkbenchModel", name := "undo", desc := "()I" } : Jvm.MethodName)) ∈ lw_all := lw_g (lw_at lw_m16 154 rfl) rfl
theorem q3838 : (Jvm.Cond.selects "MergeWorkbenchModel" ({ cls := "MergeWorkbenchModel", name := "undo", desc := "()I" } : Jvm.MethodName) ({ cls := "MergeWorkbenchModel", name := "undo", desc := "()I" } : Jvm.MethodName)) ∈ lw_all := lw_g (lw_at lw_m16 155 rfl) rfl
theorem q3839 : (Jvm.Cond.code ({ cls := "MergeWorkbenchModel", name := "undo", desc := "()I" } : Jvm.MethodName) prog_22_method_73_code (3 : Nat) (Option.some Jvm.ClassFile.FieldType.int)) ∈ lw_all := lw_g (lw_at lw_m16 156 rfl) rfl
theorem q3841 : (Jvm.Cond.instanceMethod ({ cls := "MergeWorkbenchModel", name := "save", desc := "()I" } : Jvm.MethodName)) ∈ lw_all := lw_g (lw_at lw_m16 158 rfl) rfl
theorem q3842 : (Jvm.Cond.selects "MergeWorkbenchModel" ({ cls := "MergeWorkbenchModel", name := "save", desc := "()I" } : Jvm.MethodName) ({ cls := "MergeWorkbenchModel", name := "save", desc := "()I" } : Jvm.MethodName)) ∈ lw_all := lw_g (lw_at lw_m16 159 rfl) rfl
theorem q3843 : (Jvm.Cond.code ({ cls := "MergeWorkbenchModel", name := "save", desc := "()I" } : Jvm.MethodName) prog_22_method_75_code (2 : Nat) (Option.some Jvm.ClassFile.FieldType.int)) ∈ lw_all := lw_g (lw_at lw_m16 160 rfl) rfl
theorem q3844 : (Jvm.Cond.methodLink "MergeWorkbenchModel" (331 : Nat) ({ cls := "MergeWorkbenchModel", name := "all", desc := "()I" } : Jvm.MethodName)) ∈ lw_all := lw_g (lw_at lw_m16 161 rfl) rfl
theorem q3845 : (Jvm.Cond.privateMethod ({ cls := "MergeWorkbenchModel", name := "all", desc := "()I" } : Jvm.MethodName)) ∈ lw_tbl := lw_at lw_m16 162 rfl
theorem q3846 : (Jvm.Cond.instanceMethod ({ cls := "MergeWorkbenchModel", name := "all", desc := "()I" } : Jvm.MethodName)) ∈ lw_all := lw_g (lw_at lw_m16 163 rfl) rfl
theorem q3847 : (Jvm.Cond.code ({ cls := "MergeWorkbenchModel", name := "all", desc := "()I" } : Jvm.MethodName) prog_22_method_74_code (3 : Nat) (Option.some Jvm.ClassFile.FieldType.int)) ∈ lw_all := lw_g (lw_at lw_m16 164 rfl) rfl
theorem q3849 : (Jvm.Cond.instanceMethod ({ cls := "MergeWorkbenchModel", name := "restore", desc := "()I" } : Jvm.MethodName)) ∈ lw_all := lw_g (lw_at lw_m16 166 rfl) rfl
theorem q3850 : (Jvm.Cond.selects "MergeWorkbenchModel" ({ cls := "MergeWorkbenchModel", name := "restore", desc := "()I" } : Jvm.MethodName) ({ cls := "MergeWorkbenchModel", name := "restore", desc := "()I" } : Jvm.MethodName)) ∈ lw_all := lw_g (lw_at lw_m16 167 rfl) rfl
theorem q3851 : (Jvm.Cond.code ({ cls := "MergeWorkbenchModel", name := "restore", desc := "()I" } : Jvm.MethodName) prog_22_method_76_code (2 : Nat) (Option.some Jvm.ClassFile.FieldType.int)) ∈ lw_all := lw_g (lw_at lw_m16 168 rfl) rfl
theorem q3909 : (Jvm.Cond.castable "MergeWorkbenchModel" "java/lang/Object") ∈ lw_tbl := lw_at lw_m16 226 rfl
theorem in_X3 : ∀ w ∈ wsX30, w ∈ lw_all := lw_in wsX30 [3435, 3437, 3439, 3441, 3443, 3445, 3447, 3449, 3451, 3453, 3455, 3457, 3459, 3461, 3463, 3465, 3467, 3469, 3471, 3473, 3475, 3477, 3479, 3481, 3483, 3485, 3487, 3489, 3491, 3493, 3495, 3497, 3499, 3501, 3503, 3505, 3507, 3509, 3511, 3513, 3515, 3517, 3519, 3521, 3523, 3525, 3527, 3529, 3531, 3533, 3535, 3537, 3539, 3541, 3543, 3545, 3547, 3549, 3551, 3553, 3555] (by decide +kernel) (by decide +kernel)

/-! the law's own entry -/
set_option maxRecDepth 100000
abbrev cL_law : ByteArray := code
def dkwL_law_95 : List UInt8 := [4, 172]
abbrev dktL_law_95 : List UInt8 := dkwL_law_95 ++ []
def dkwL_law_94 : List UInt8 := [154, 0, 15, 45, 3, 47, 21, 7, 133, 148, 153, 0, 5, 3, 172, 167, 0, 3, 132, 5, 4, 167, 246, 245]
abbrev dktL_law_94 : List UInt8 := dkwL_law_94 ++ dktL_law_95
def dkwL_law_93 : List UInt8 := [184, 0, 255, 54, 6, 44, 182, 1, 1, 54, 7, 44, 182, 0, 141, 21, 6, 159, 0, 5, 3, 172, 21, 6]
abbrev dktL_law_93 : List UInt8 := dkwL_law_93 ++ dktL_law_94
def dkwL_law_92 : List UInt8 := [153, 0, 5, 3, 172, 167, 0, 60, 43, 182, 0, 251, 44, 182, 0, 254, 159, 0, 49, 3, 172, 43, 45]
abbrev dktL_law_92 : List UInt8 := dkwL_law_92 ++ dktL_law_93
def dkwL_law_91 : List UInt8 := [182, 0, 141, 21, 6, 159, 0, 5, 3, 172, 21, 6, 154, 0, 15, 45, 3, 47, 21, 7, 133, 148]
abbrev dktL_law_91 : List UInt8 := dkwL_law_91 ++ dktL_law_92
def dkwL_law_90 : List UInt8 := [148, 153, 0, 5, 3, 172, 167, 0, 104, 43, 45, 184, 0, 248, 54, 6, 44, 182, 0, 250, 54, 7, 44]
abbrev dktL_law_90 : List UInt8 := dkwL_law_90 ++ dktL_law_91
def dkwL_law_89 : List UInt8 := [54, 7, 44, 182, 0, 141, 21, 6, 159, 0, 5, 3, 172, 21, 6, 154, 0, 15, 45, 3, 47, 21, 7, 133]
abbrev dktL_law_89 : List UInt8 := dkwL_law_89 ++ dktL_law_90
def dkwL_law_88 : List UInt8 := [46, 45, 184, 0, 245, 54, 6, 44, 42, 21, 5, 4, 96, 46, 42, 21, 5, 5, 96, 46, 182, 0, 247]
abbrev dktL_law_88 : List UInt8 := dkwL_law_88 ++ dktL_law_89
def dkwL_law_87 : List UInt8 := [21, 7, 133, 148, 153, 0, 5, 3, 172, 167, 0, 172, 43, 42, 21, 5, 4, 96, 46, 42, 21, 5, 5, 96]
abbrev dktL_law_87 : List UInt8 := dkwL_law_87 ++ dktL_law_88
def dkwL_law_86 : List UInt8 := [182, 0, 244, 54, 7, 44, 182, 0, 141, 21, 6, 159, 0, 5, 3, 172, 21, 6, 154, 0, 15, 45, 3, 47]
abbrev dktL_law_86 : List UInt8 := dkwL_law_86 ++ dktL_law_87
def dkwL_law_85 : List UInt8 := [96, 46, 42, 21, 5, 5, 96, 46, 42, 21, 5, 6, 96, 46, 153, 0, 7, 4, 167, 0, 4, 3]
abbrev dktL_law_85 : List UInt8 := dkwL_law_85 ++ dktL_law_86
def dkwL_law_84 : List UInt8 := [21, 5, 6, 96, 46, 153, 0, 7, 4, 167, 0, 4, 3, 45, 184, 0, 241, 54, 6, 44, 42, 21, 5, 4]
abbrev dktL_law_84 : List UInt8 := dkwL_law_84 ++ dktL_law_85
def dkwL_law_83 : List UInt8 := [148, 153, 0, 5, 3, 172, 167, 1, 12, 43, 42, 21, 5, 4, 96, 46, 42, 21, 5, 5, 96, 46, 42]
abbrev dktL_law_83 : List UInt8 := dkwL_law_83 ++ dktL_law_84
def dkwL_law_82 : List UInt8 := [54, 7, 44, 182, 0, 141, 21, 6, 159, 0, 5, 3, 172, 21, 6, 154, 0, 15, 45, 3, 47, 21, 7, 133]
abbrev dktL_law_82 : List UInt8 := dkwL_law_82 ++ dktL_law_83
def dkwL_law_81 : List UInt8 := [46, 45, 184, 0, 238, 54, 6, 44, 42, 21, 5, 4, 96, 46, 42, 21, 5, 5, 96, 46, 182, 0, 240]
abbrev dktL_law_81 : List UInt8 := dkwL_law_81 ++ dktL_law_82
def dkwL_law_80 : List UInt8 := [21, 7, 133, 148, 153, 0, 5, 3, 172, 167, 1, 80, 43, 42, 21, 5, 4, 96, 46, 42, 21, 5, 5, 96]
abbrev dktL_law_80 : List UInt8 := dkwL_law_80 ++ dktL_law_81
def dkwL_law_79 : List UInt8 := [182, 0, 237, 54, 7, 44, 182, 0, 141, 21, 6, 159, 0, 5, 3, 172, 21, 6, 154, 0, 15, 45, 3, 47]
abbrev dktL_law_79 : List UInt8 := dkwL_law_79 ++ dktL_law_80
def dkwL_law_78 : List UInt8 := [167, 1, 136, 43, 42, 21, 5, 4, 96, 46, 45, 184, 0, 235, 54, 6, 44, 42, 21, 5, 4, 96, 46]
abbrev dktL_law_78 : List UInt8 := dkwL_law_78 ++ dktL_law_79
def dkwL_law_77 : List UInt8 := [21, 6, 159, 0, 5, 3, 172, 21, 6, 154, 0, 15, 45, 3, 47, 21, 7, 133, 148, 153, 0, 5, 3, 172]
abbrev dktL_law_77 : List UInt8 := dkwL_law_77 ++ dktL_law_78
def dkwL_law_76 : List UInt8 := [46, 45, 184, 0, 232, 54, 6, 44, 42, 21, 5, 4, 96, 46, 182, 0, 234, 54, 7, 44, 182, 0, 141]
abbrev dktL_law_76 : List UInt8 := dkwL_law_76 ++ dktL_law_77
def dkwL_law_75 : List UInt8 := [154, 0, 15, 45, 3, 47, 21, 7, 133, 148, 153, 0, 5, 3, 172, 167, 1, 192, 43, 42, 21, 5, 4, 96]
abbrev dktL_law_75 : List UInt8 := dkwL_law_75 ++ dktL_law_76
def dkwL_law_74 : List UInt8 := [21, 5, 4, 96, 46, 182, 0, 231, 54, 7, 44, 182, 0, 141, 21, 6, 159, 0, 5, 3, 172, 21, 6]
abbrev dktL_law_74 : List UInt8 := dkwL_law_74 ++ dktL_law_75
def dkwL_law_73 : List UInt8 := [153, 0, 5, 3, 172, 167, 1, 248, 43, 42, 21, 5, 4, 96, 46, 45, 184, 0, 229, 54, 6, 44, 42]
abbrev dktL_law_73 : List UInt8 := dkwL_law_73 ++ dktL_law_74
def dkwL_law_72 : List UInt8 := [182, 0, 141, 21, 6, 159, 0, 5, 3, 172, 21, 6, 154, 0, 15, 45, 3, 47, 21, 7, 133, 148]
abbrev dktL_law_72 : List UInt8 := dkwL_law_72 ++ dktL_law_73
def dkwL_law_71 : List UInt8 := [153, 0, 5, 3, 172, 167, 2, 36, 43, 45, 184, 0, 226, 54, 6, 44, 182, 0, 228, 54, 7, 44]
abbrev dktL_law_71 : List UInt8 := dkwL_law_71 ++ dktL_law_72
def dkwL_law_70 : List UInt8 := [182, 0, 141, 21, 6, 159, 0, 5, 3, 172, 21, 6, 154, 0, 15, 45, 3, 47, 21, 7, 133, 148]
abbrev dktL_law_70 : List UInt8 := dkwL_law_70 ++ dktL_law_71
def dkwL_law_69 : List UInt8 := [153, 0, 5, 3, 172, 167, 2, 80, 43, 45, 184, 0, 223, 54, 6, 44, 182, 0, 225, 54, 7, 44]
abbrev dktL_law_69 : List UInt8 := dkwL_law_69 ++ dktL_law_70
def dkwL_law_68 : List UInt8 := [182, 0, 141, 21, 6, 159, 0, 5, 3, 172, 21, 6, 154, 0, 15, 45, 3, 47, 21, 7, 133, 148]
abbrev dktL_law_68 : List UInt8 := dkwL_law_68 ++ dktL_law_69
def dkwL_law_67 : List UInt8 := [184, 0, 220, 54, 6, 44, 42, 21, 5, 4, 96, 46, 42, 21, 5, 5, 96, 46, 182, 0, 222, 54, 7, 44]
abbrev dktL_law_67 : List UInt8 := dkwL_law_67 ++ dktL_law_68
def dkwL_law_66 : List UInt8 := [153, 0, 5, 3, 172, 167, 2, 148, 43, 42, 21, 5, 4, 96, 46, 42, 21, 5, 5, 96, 46, 45]
abbrev dktL_law_66 : List UInt8 := dkwL_law_66 ++ dktL_law_67
def dkwL_law_65 : List UInt8 := [182, 0, 141, 21, 6, 159, 0, 5, 3, 172, 21, 6, 154, 0, 15, 45, 3, 47, 21, 7, 133, 148]
abbrev dktL_law_65 : List UInt8 := dkwL_law_65 ++ dktL_law_66
def dkwL_law_64 : List UInt8 := [184, 0, 217, 54, 6, 44, 42, 21, 5, 4, 96, 46, 42, 21, 5, 5, 96, 46, 182, 0, 219, 54, 7, 44]
abbrev dktL_law_64 : List UInt8 := dkwL_law_64 ++ dktL_law_65
def dkwL_law_63 : List UInt8 := [148, 153, 0, 5, 3, 172, 167, 2, 216, 43, 42, 21, 5, 4, 96, 46, 42, 21, 5, 5, 96, 46, 45]
abbrev dktL_law_63 : List UInt8 := dkwL_law_63 ++ dktL_law_64
def dkwL_law_62 : List UInt8 := [54, 7, 44, 182, 0, 141, 21, 6, 159, 0, 5, 3, 172, 21, 6, 154, 0, 15, 45, 3, 47, 21, 7, 133]
abbrev dktL_law_62 : List UInt8 := dkwL_law_62 ++ dktL_law_63
def dkwL_law_61 : List UInt8 := [21, 7, 133, 148, 153, 0, 5, 3, 172, 167, 3, 4, 43, 45, 184, 0, 214, 54, 6, 44, 182, 0, 216]
abbrev dktL_law_61 : List UInt8 := dkwL_law_61 ++ dktL_law_62
def dkwL_law_60 : List UInt8 := [182, 0, 213, 54, 7, 44, 182, 0, 141, 21, 6, 159, 0, 5, 3, 172, 21, 6, 154, 0, 15, 45, 3, 47]
abbrev dktL_law_60 : List UInt8 := dkwL_law_60 ++ dktL_law_61
def dkwL_law_59 : List UInt8 := [184, 0, 211, 54, 6, 44, 42, 21, 5, 4, 96, 46, 42, 21, 5, 5, 96, 46, 42, 21, 5, 6, 96, 46]
abbrev dktL_law_59 : List UInt8 := dkwL_law_59 ++ dktL_law_60
def dkwL_law_58 : List UInt8 := [3, 172, 43, 42, 21, 5, 4, 96, 46, 42, 21, 5, 5, 96, 46, 42, 21, 5, 6, 96, 46, 45]
abbrev dktL_law_58 : List UInt8 := dkwL_law_58 ++ dktL_law_59
def dkwL_law_57 : List UInt8 := [182, 0, 206, 44, 42, 21, 5, 4, 96, 46, 153, 0, 7, 4, 167, 0, 4, 3, 182, 0, 210, 159, 3, 86]
abbrev dktL_law_57 : List UInt8 := dkwL_law_57 ++ dktL_law_58
def dkwL_law_56 : List UInt8 := [148, 153, 0, 5, 3, 172, 167, 3, 125, 43, 42, 21, 5, 4, 96, 46, 153, 0, 7, 4, 167, 0, 4, 3]
abbrev dktL_law_56 : List UInt8 := dkwL_law_56 ++ dktL_law_57
def dkwL_law_55 : List UInt8 := [54, 7, 44, 182, 0, 141, 21, 6, 159, 0, 5, 3, 172, 21, 6, 154, 0, 15, 45, 3, 47, 21, 7, 133]
abbrev dktL_law_55 : List UInt8 := dkwL_law_55 ++ dktL_law_56
def dkwL_law_54 : List UInt8 := [96, 46, 45, 184, 0, 203, 54, 6, 44, 42, 21, 5, 4, 96, 46, 42, 21, 5, 5, 96, 46, 182, 0, 205]
abbrev dktL_law_54 : List UInt8 := dkwL_law_54 ++ dktL_law_55
def dkwL_law_53 : List UInt8 := [47, 21, 7, 133, 148, 153, 0, 5, 3, 172, 167, 3, 193, 43, 42, 21, 5, 4, 96, 46, 42, 21, 5, 5]
abbrev dktL_law_53 : List UInt8 := dkwL_law_53 ++ dktL_law_54
def dkwL_law_52 : List UInt8 := [46, 182, 0, 202, 54, 7, 44, 182, 0, 141, 21, 6, 159, 0, 5, 3, 172, 21, 6, 154, 0, 15, 45, 3]
abbrev dktL_law_52 : List UInt8 := dkwL_law_52 ++ dktL_law_53
def dkwL_law_51 : List UInt8 := [3, 172, 167, 3, 249, 43, 42, 21, 5, 4, 96, 46, 45, 184, 0, 200, 54, 6, 44, 42, 21, 5, 4, 96]
abbrev dktL_law_51 : List UInt8 := dkwL_law_51 ++ dktL_law_52
def dkwL_law_50 : List UInt8 := [151, 153, 0, 25, 25, 4, 3, 49, 25, 4, 3, 49, 151, 153, 0, 11, 24, 7, 24, 7, 151, 154, 0, 5]
abbrev dktL_law_50 : List UInt8 := dkwL_law_50 ++ dktL_law_51
def dkwL_law_49 : List UInt8 := [57, 7, 44, 182, 0, 141, 21, 6, 159, 0, 5, 3, 172, 21, 6, 154, 0, 35, 25, 4, 3, 49, 24, 7]
abbrev dktL_law_49 : List UInt8 := dkwL_law_49 ++ dktL_law_50
def dkwL_law_48 : List UInt8 := [21, 7, 133, 148, 153, 0, 5, 3, 172, 167, 4, 58, 43, 25, 4, 184, 0, 196, 54, 6, 44, 182, 0, 199]
abbrev dktL_law_48 : List UInt8 := dkwL_law_48 ++ dktL_law_49
def dkwL_law_47 : List UInt8 := [182, 0, 195, 54, 7, 44, 182, 0, 141, 21, 6, 159, 0, 5, 3, 172, 21, 6, 154, 0, 15, 45, 3, 47]
abbrev dktL_law_47 : List UInt8 := dkwL_law_47 ++ dktL_law_48
def dkwL_law_46 : List UInt8 := [167, 4, 114, 43, 42, 21, 5, 4, 96, 46, 45, 184, 0, 193, 54, 6, 44, 42, 21, 5, 4, 96, 46]
abbrev dktL_law_46 : List UInt8 := dkwL_law_46 ++ dktL_law_47
def dkwL_law_45 : List UInt8 := [159, 0, 5, 3, 172, 21, 6, 154, 0, 15, 45, 3, 47, 21, 7, 133, 148, 153, 0, 5, 3, 172]
abbrev dktL_law_45 : List UInt8 := dkwL_law_45 ++ dktL_law_46
def dkwL_law_44 : List UInt8 := [21, 5, 4, 96, 46, 42, 21, 5, 5, 96, 46, 182, 0, 192, 54, 7, 44, 182, 0, 141, 21, 6]
abbrev dktL_law_44 : List UInt8 := dkwL_law_44 ++ dktL_law_45
def dkwL_law_43 : List UInt8 := [167, 4, 182, 43, 42, 21, 5, 4, 96, 46, 42, 21, 5, 5, 96, 46, 45, 184, 0, 190, 54, 6, 44, 42]
abbrev dktL_law_43 : List UInt8 := dkwL_law_43 ++ dktL_law_44
def dkwL_law_42 : List UInt8 := [159, 0, 5, 3, 172, 21, 6, 154, 0, 15, 45, 3, 47, 21, 7, 133, 148, 153, 0, 5, 3, 172]
abbrev dktL_law_42 : List UInt8 := dkwL_law_42 ++ dktL_law_43
def dkwL_law_41 : List UInt8 := [167, 4, 226, 43, 45, 184, 0, 187, 54, 6, 44, 182, 0, 189, 54, 7, 44, 182, 0, 141, 21, 6]
abbrev dktL_law_41 : List UInt8 := dkwL_law_41 ++ dktL_law_42
def dkwL_law_40 : List UInt8 := [159, 0, 5, 3, 172, 21, 6, 154, 0, 15, 45, 3, 47, 21, 7, 133, 148, 153, 0, 5, 3, 172]
abbrev dktL_law_40 : List UInt8 := dkwL_law_40 ++ dktL_law_41
def dkwL_law_39 : List UInt8 := [167, 5, 14, 43, 45, 184, 0, 183, 54, 6, 44, 182, 0, 186, 54, 7, 44, 182, 0, 141, 21, 6]
abbrev dktL_law_39 : List UInt8 := dkwL_law_39 ++ dktL_law_40
def dkwL_law_38 : List UInt8 := [21, 6, 159, 0, 5, 3, 172, 21, 6, 154, 0, 15, 45, 3, 47, 21, 7, 133, 148, 153, 0, 5, 3, 172]
abbrev dktL_law_38 : List UInt8 := dkwL_law_38 ++ dktL_law_39
def dkwL_law_37 : List UInt8 := [46, 45, 184, 0, 180, 54, 6, 44, 42, 21, 5, 4, 96, 46, 182, 0, 182, 54, 7, 44, 182, 0, 141]
abbrev dktL_law_37 : List UInt8 := dkwL_law_37 ++ dktL_law_38
def dkwL_law_36 : List UInt8 := [154, 0, 15, 45, 3, 47, 21, 7, 133, 148, 153, 0, 5, 3, 172, 167, 5, 70, 43, 42, 21, 5, 4, 96]
abbrev dktL_law_36 : List UInt8 := dkwL_law_36 ++ dktL_law_37
def dkwL_law_35 : List UInt8 := [42, 21, 5, 5, 96, 46, 182, 0, 179, 54, 7, 44, 182, 0, 141, 21, 6, 159, 0, 5, 3, 172, 21, 6]
abbrev dktL_law_35 : List UInt8 := dkwL_law_35 ++ dktL_law_36
def dkwL_law_34 : List UInt8 := [21, 5, 4, 96, 46, 42, 21, 5, 5, 96, 46, 45, 184, 0, 177, 54, 6, 44, 42, 21, 5, 4, 96, 46]
abbrev dktL_law_34 : List UInt8 := dkwL_law_34 ++ dktL_law_35
def dkwL_law_33 : List UInt8 := [172, 21, 6, 154, 0, 15, 45, 3, 47, 21, 7, 133, 148, 153, 0, 5, 3, 172, 167, 5, 138, 43, 42]
abbrev dktL_law_33 : List UInt8 := dkwL_law_33 ++ dktL_law_34
def dkwL_law_32 : List UInt8 := [54, 6, 44, 42, 21, 5, 4, 96, 46, 182, 0, 176, 54, 7, 44, 182, 0, 141, 21, 6, 159, 0, 5, 3]
abbrev dktL_law_32 : List UInt8 := dkwL_law_32 ++ dktL_law_33
def dkwL_law_31 : List UInt8 := [21, 7, 133, 148, 153, 0, 5, 3, 172, 167, 5, 194, 43, 42, 21, 5, 4, 96, 46, 45, 184, 0, 174]
abbrev dktL_law_31 : List UInt8 := dkwL_law_31 ++ dktL_law_32
def dkwL_law_30 : List UInt8 := [182, 0, 173, 54, 7, 44, 182, 0, 141, 21, 6, 159, 0, 5, 3, 172, 21, 6, 154, 0, 15, 45, 3, 47]
abbrev dktL_law_30 : List UInt8 := dkwL_law_30 ++ dktL_law_31
def dkwL_law_29 : List UInt8 := [167, 5, 250, 43, 42, 21, 5, 4, 96, 46, 45, 184, 0, 171, 54, 6, 44, 42, 21, 5, 4, 96, 46]
abbrev dktL_law_29 : List UInt8 := dkwL_law_29 ++ dktL_law_30
def dkwL_law_28 : List UInt8 := [159, 0, 5, 3, 172, 21, 6, 154, 0, 15, 45, 3, 47, 21, 7, 133, 148, 153, 0, 5, 3, 172]
abbrev dktL_law_28 : List UInt8 := dkwL_law_28 ++ dktL_law_29
def dkwL_law_27 : List UInt8 := [184, 0, 167, 54, 6, 44, 42, 21, 5, 4, 96, 46, 146, 182, 0, 170, 54, 7, 44, 182, 0, 141, 21, 6]
abbrev dktL_law_27 : List UInt8 := dkwL_law_27 ++ dktL_law_28
def dkwL_law_26 : List UInt8 := [47, 21, 7, 133, 148, 153, 0, 5, 3, 172, 167, 6, 52, 43, 42, 21, 5, 4, 96, 46, 146, 45]
abbrev dktL_law_26 : List UInt8 := dkwL_law_26 ++ dktL_law_27
def dkwL_law_25 : List UInt8 := [46, 182, 0, 166, 54, 7, 44, 182, 0, 141, 21, 6, 159, 0, 5, 3, 172, 21, 6, 154, 0, 15, 45, 3]
abbrev dktL_law_25 : List UInt8 := dkwL_law_25 ++ dktL_law_26
def dkwL_law_24 : List UInt8 := [42, 21, 5, 5, 96, 46, 45, 184, 0, 164, 54, 6, 44, 42, 21, 5, 4, 96, 46, 42, 21, 5, 5, 96]
abbrev dktL_law_24 : List UInt8 := dkwL_law_24 ++ dktL_law_25
def dkwL_law_23 : List UInt8 := [153, 0, 7, 10, 167, 0, 4, 9, 148, 153, 0, 5, 3, 172, 167, 6, 120, 43, 42, 21, 5, 4, 96, 46]
abbrev dktL_law_23 : List UInt8 := dkwL_law_23 ++ dktL_law_24
def dkwL_law_22 : List UInt8 := [54, 7, 44, 182, 0, 141, 21, 6, 159, 0, 5, 3, 172, 21, 6, 154, 0, 22, 45, 3, 47, 21, 7]
abbrev dktL_law_22 : List UInt8 := dkwL_law_22 ++ dktL_law_23
def dkwL_law_21 : List UInt8 := [46, 45, 184, 0, 161, 54, 6, 44, 42, 21, 5, 4, 96, 46, 42, 21, 5, 5, 96, 46, 182, 0, 163]
abbrev dktL_law_21 : List UInt8 := dkwL_law_21 ++ dktL_law_22
def dkwL_law_20 : List UInt8 := [21, 7, 133, 148, 153, 0, 5, 3, 172, 167, 6, 195, 43, 42, 21, 5, 4, 96, 46, 42, 21, 5, 5, 96]
abbrev dktL_law_20 : List UInt8 := dkwL_law_20 ++ dktL_law_21
def dkwL_law_19 : List UInt8 := [182, 0, 160, 54, 7, 44, 182, 0, 141, 21, 6, 159, 0, 5, 3, 172, 21, 6, 154, 0, 15, 45, 3, 47]
abbrev dktL_law_19 : List UInt8 := dkwL_law_19 ++ dktL_law_20
def dkwL_law_18 : List UInt8 := [5, 96, 46, 45, 184, 0, 158, 54, 6, 44, 42, 21, 5, 4, 96, 46, 42, 21, 5, 5, 96, 46]
abbrev dktL_law_18 : List UInt8 := dkwL_law_18 ++ dktL_law_19
def dkwL_law_17 : List UInt8 := [3, 47, 21, 7, 133, 148, 153, 0, 5, 3, 172, 167, 7, 7, 43, 42, 21, 5, 4, 96, 46, 42, 21, 5]
abbrev dktL_law_17 : List UInt8 := dkwL_law_17 ++ dktL_law_18
def dkwL_law_16 : List UInt8 := [96, 46, 182, 0, 157, 54, 7, 44, 182, 0, 141, 21, 6, 159, 0, 5, 3, 172, 21, 6, 154, 0, 15, 45]
abbrev dktL_law_16 : List UInt8 := dkwL_law_16 ++ dktL_law_17
def dkwL_law_15 : List UInt8 := [46, 42, 21, 5, 5, 96, 46, 45, 184, 0, 155, 54, 6, 44, 42, 21, 5, 4, 96, 46, 42, 21, 5, 5]
abbrev dktL_law_15 : List UInt8 := dkwL_law_15 ++ dktL_law_16
def dkwL_law_14 : List UInt8 := [154, 0, 15, 45, 3, 47, 21, 7, 133, 148, 153, 0, 5, 3, 172, 167, 7, 75, 43, 42, 21, 5, 4, 96]
abbrev dktL_law_14 : List UInt8 := dkwL_law_14 ++ dktL_law_15
def dkwL_law_13 : List UInt8 := [21, 5, 4, 96, 46, 182, 0, 154, 54, 7, 44, 182, 0, 141, 21, 6, 159, 0, 5, 3, 172, 21, 6]
abbrev dktL_law_13 : List UInt8 := dkwL_law_13 ++ dktL_law_14
def dkwL_law_12 : List UInt8 := [153, 0, 5, 3, 172, 167, 7, 131, 43, 42, 21, 5, 4, 96, 46, 45, 184, 0, 151, 54, 6, 44, 42]
abbrev dktL_law_12 : List UInt8 := dkwL_law_12 ++ dktL_law_13
def dkwL_law_11 : List UInt8 := [182, 0, 141, 21, 6, 159, 0, 5, 3, 172, 21, 6, 154, 0, 15, 45, 3, 47, 21, 7, 133, 148]
abbrev dktL_law_11 : List UInt8 := dkwL_law_11 ++ dktL_law_12
def dkwL_law_10 : List UInt8 := [184, 0, 148, 54, 6, 44, 42, 21, 5, 4, 96, 46, 42, 21, 5, 5, 96, 46, 182, 0, 150, 54, 7, 44]
abbrev dktL_law_10 : List UInt8 := dkwL_law_10 ++ dktL_law_11
def dkwL_law_9 : List UInt8 := [153, 0, 5, 3, 172, 167, 7, 199, 43, 42, 21, 5, 4, 96, 46, 42, 21, 5, 5, 96, 46, 45]
abbrev dktL_law_9 : List UInt8 := dkwL_law_9 ++ dktL_law_10
def dkwL_law_8 : List UInt8 := [182, 0, 141, 21, 6, 159, 0, 5, 3, 172, 21, 6, 154, 0, 15, 45, 3, 47, 21, 7, 133, 148]
abbrev dktL_law_8 : List UInt8 := dkwL_law_8 ++ dktL_law_9
def dkwL_law_7 : List UInt8 := [21, 5, 4, 96, 46, 42, 21, 5, 5, 96, 46, 42, 21, 5, 6, 96, 46, 182, 0, 147, 54, 7, 44]
abbrev dktL_law_7 : List UInt8 := dkwL_law_7 ++ dktL_law_8
def dkwL_law_6 : List UInt8 := [4, 96, 46, 42, 21, 5, 5, 96, 46, 42, 21, 5, 6, 96, 46, 45, 184, 0, 144, 54, 6, 44, 42]
abbrev dktL_law_6 : List UInt8 := dkwL_law_6 ++ dktL_law_7
def dkwL_law_5 : List UInt8 := [21, 6, 154, 0, 15, 45, 3, 47, 21, 7, 133, 148, 153, 0, 5, 3, 172, 167, 8, 23, 43, 42, 21, 5]
abbrev dktL_law_5 : List UInt8 := dkwL_law_5 ++ dktL_law_6
def dkwL_law_4 : List UInt8 := [96, 46, 42, 21, 5, 5, 96, 46, 182, 0, 140, 54, 7, 44, 182, 0, 141, 21, 6, 159, 0, 5, 3, 172]
abbrev dktL_law_4 : List UInt8 := dkwL_law_4 ++ dktL_law_5
def dkwL_law_3 : List UInt8 := [43, 42, 21, 5, 4, 96, 46, 42, 21, 5, 5, 96, 46, 45, 184, 0, 135, 54, 6, 44, 42, 21, 5, 4]
abbrev dktL_law_3 : List UInt8 := dkwL_law_3 ++ dktL_law_4
def dkwL_law_2 : List UInt8 := [170, 0, 0, 0, 0, 0, 8, 248, 0, 0, 0, 0, 0, 0, 0, 35, 0, 0, 0, 160, 0, 0, 0, 228, 0, 0, 1, 52, 0, 0, 1, 120, 0, 0, 1, 176, 0, 0, 1, 244, 0, 0, 2, 56, 0, 0, 2, 131, 0, 0, 2, 199, 0, 0, 3, 1, 0, 0, 3, 57, 0, 0, 3, 113, 0, 0, 3, 181, 0, 0, 3, 237, 0, 0, 4, 25, 0, 0, 4, 69, 0, 0, 4, 137, 0, 0, 4, 193, 0, 0, 5, 2, 0, 0, 5, 58, 0, 0, 5, 126, 0, 0, 5, 167, 0, 0, 5, 247, 0, 0, 6, 35, 0, 0, 6, 103, 0, 0, 6, 171, 0, 0, 6, 215, 0, 0, 7, 3, 0, 0, 7, 59, 0, 0, 7, 115, 0, 0, 7, 171, 0, 0, 7, 239, 0, 0, 8, 79, 0, 0, 8, 147, 0, 0, 8, 191, 0, 0, 8, 204]
abbrev dktL_law_2 : List UInt8 := dkwL_law_2 ++ dktL_law_3
def dkwL_law_1 : List UInt8 := [58, 4, 3, 54, 5, 21, 5, 42, 190, 7, 100, 163, 9, 8, 42, 21, 5, 46, 16, 63, 126]
abbrev dktL_law_1 : List UInt8 := dkwL_law_1 ++ dktL_law_2
def dkwL_law_0 : List UInt8 := [187, 0, 8, 89, 183, 0, 131, 76, 187, 0, 132, 89, 183, 0, 134, 77, 4, 188, 11, 78, 4, 188, 7]
abbrev dktL_law_0 : List UInt8 := dkwL_law_0 ++ dktL_law_1
theorem dksL_law_0 : cL_law.data.toList.drop 0 = dktL_law_0 := by decide +kernel
theorem dksL_law_1 : cL_law.data.toList.drop 23 = dktL_law_1 := dk_seg dksL_law_0 23 rfl rfl
theorem dksL_law_2 : cL_law.data.toList.drop 44 = dktL_law_2 := dk_seg dksL_law_1 21 rfl rfl
theorem dksL_law_3 : cL_law.data.toList.drop 204 = dktL_law_3 := dk_seg dksL_law_2 160 rfl rfl
theorem dksL_law_4 : cL_law.data.toList.drop 228 = dktL_law_4 := dk_seg dksL_law_3 24 rfl rfl
theorem dksL_law_5 : cL_law.data.toList.drop 252 = dktL_law_5 := dk_seg dksL_law_4 24 rfl rfl
theorem dksL_law_6 : cL_law.data.toList.drop 276 = dktL_law_6 := dk_seg dksL_law_5 24 rfl rfl
theorem dksL_law_7 : cL_law.data.toList.drop 299 = dktL_law_7 := dk_seg dksL_law_6 23 rfl rfl
theorem dksL_law_8 : cL_law.data.toList.drop 322 = dktL_law_8 := dk_seg dksL_law_7 23 rfl rfl
theorem dksL_law_9 : cL_law.data.toList.drop 344 = dktL_law_9 := dk_seg dksL_law_8 22 rfl rfl
theorem dksL_law_10 : cL_law.data.toList.drop 366 = dktL_law_10 := dk_seg dksL_law_9 22 rfl rfl
theorem dksL_law_11 : cL_law.data.toList.drop 390 = dktL_law_11 := dk_seg dksL_law_10 24 rfl rfl
theorem dksL_law_12 : cL_law.data.toList.drop 412 = dktL_law_12 := dk_seg dksL_law_11 22 rfl rfl
theorem dksL_law_13 : cL_law.data.toList.drop 435 = dktL_law_13 := dk_seg dksL_law_12 23 rfl rfl
theorem dksL_law_14 : cL_law.data.toList.drop 458 = dktL_law_14 := dk_seg dksL_law_13 23 rfl rfl
theorem dksL_law_15 : cL_law.data.toList.drop 482 = dktL_law_15 := dk_seg dksL_law_14 24 rfl rfl
theorem dksL_law_16 : cL_law.data.toList.drop 506 = dktL_law_16 := dk_seg dksL_law_15 24 rfl rfl
theorem dksL_law_17 : cL_law.data.toList.drop 530 = dktL_law_17 := dk_seg dksL_law_16 24 rfl rfl
theorem dksL_law_18 : cL_law.data.toList.drop 554 = dktL_law_18 := dk_seg dksL_law_17 24 rfl rfl
theorem dksL_law_19 : cL_law.data.toList.drop 576 = dktL_law_19 := dk_seg dksL_law_18 22 rfl rfl
theorem dksL_law_20 : cL_law.data.toList.drop 600 = dktL_law_20 := dk_seg dksL_law_19 24 rfl rfl
theorem dksL_law_21 : cL_law.data.toList.drop 624 = dktL_law_21 := dk_seg dksL_law_20 24 rfl rfl
theorem dksL_law_22 : cL_law.data.toList.drop 647 = dktL_law_22 := dk_seg dksL_law_21 23 rfl rfl
theorem dksL_law_23 : cL_law.data.toList.drop 670 = dktL_law_23 := dk_seg dksL_law_22 23 rfl rfl
theorem dksL_law_24 : cL_law.data.toList.drop 694 = dktL_law_24 := dk_seg dksL_law_23 24 rfl rfl
theorem dksL_law_25 : cL_law.data.toList.drop 718 = dktL_law_25 := dk_seg dksL_law_24 24 rfl rfl
theorem dksL_law_26 : cL_law.data.toList.drop 742 = dktL_law_26 := dk_seg dksL_law_25 24 rfl rfl
theorem dksL_law_27 : cL_law.data.toList.drop 764 = dktL_law_27 := dk_seg dksL_law_26 22 rfl rfl
theorem dksL_law_28 : cL_law.data.toList.drop 788 = dktL_law_28 := dk_seg dksL_law_27 24 rfl rfl
theorem dksL_law_29 : cL_law.data.toList.drop 810 = dktL_law_29 := dk_seg dksL_law_28 22 rfl rfl
theorem dksL_law_30 : cL_law.data.toList.drop 833 = dktL_law_30 := dk_seg dksL_law_29 23 rfl rfl
theorem dksL_law_31 : cL_law.data.toList.drop 857 = dktL_law_31 := dk_seg dksL_law_30 24 rfl rfl
theorem dksL_law_32 : cL_law.data.toList.drop 880 = dktL_law_32 := dk_seg dksL_law_31 23 rfl rfl
theorem dksL_law_33 : cL_law.data.toList.drop 904 = dktL_law_33 := dk_seg dksL_law_32 24 rfl rfl
theorem dksL_law_34 : cL_law.data.toList.drop 927 = dktL_law_34 := dk_seg dksL_law_33 23 rfl rfl
theorem dksL_law_35 : cL_law.data.toList.drop 951 = dktL_law_35 := dk_seg dksL_law_34 24 rfl rfl
theorem dksL_law_36 : cL_law.data.toList.drop 975 = dktL_law_36 := dk_seg dksL_law_35 24 rfl rfl
theorem dksL_law_37 : cL_law.data.toList.drop 999 = dktL_law_37 := dk_seg dksL_law_36 24 rfl rfl
theorem dksL_law_38 : cL_law.data.toList.drop 1022 = dktL_law_38 := dk_seg dksL_law_37 23 rfl rfl
theorem dksL_law_39 : cL_law.data.toList.drop 1046 = dktL_law_39 := dk_seg dksL_law_38 24 rfl rfl
theorem dksL_law_40 : cL_law.data.toList.drop 1068 = dktL_law_40 := dk_seg dksL_law_39 22 rfl rfl
theorem dksL_law_41 : cL_law.data.toList.drop 1090 = dktL_law_41 := dk_seg dksL_law_40 22 rfl rfl
theorem dksL_law_42 : cL_law.data.toList.drop 1112 = dktL_law_42 := dk_seg dksL_law_41 22 rfl rfl
theorem dksL_law_43 : cL_law.data.toList.drop 1134 = dktL_law_43 := dk_seg dksL_law_42 22 rfl rfl
theorem dksL_law_44 : cL_law.data.toList.drop 1158 = dktL_law_44 := dk_seg dksL_law_43 24 rfl rfl
theorem dksL_law_45 : cL_law.data.toList.drop 1180 = dktL_law_45 := dk_seg dksL_law_44 22 rfl rfl
theorem dksL_law_46 : cL_law.data.toList.drop 1202 = dktL_law_46 := dk_seg dksL_law_45 22 rfl rfl
theorem dksL_law_47 : cL_law.data.toList.drop 1225 = dktL_law_47 := dk_seg dksL_law_46 23 rfl rfl
theorem dksL_law_48 : cL_law.data.toList.drop 1249 = dktL_law_48 := dk_seg dksL_law_47 24 rfl rfl
theorem dksL_law_49 : cL_law.data.toList.drop 1273 = dktL_law_49 := dk_seg dksL_law_48 24 rfl rfl
theorem dksL_law_50 : cL_law.data.toList.drop 1297 = dktL_law_50 := dk_seg dksL_law_49 24 rfl rfl
theorem dksL_law_51 : cL_law.data.toList.drop 1321 = dktL_law_51 := dk_seg dksL_law_50 24 rfl rfl
theorem dksL_law_52 : cL_law.data.toList.drop 1345 = dktL_law_52 := dk_seg dksL_law_51 24 rfl rfl
theorem dksL_law_53 : cL_law.data.toList.drop 1369 = dktL_law_53 := dk_seg dksL_law_52 24 rfl rfl
theorem dksL_law_54 : cL_law.data.toList.drop 1393 = dktL_law_54 := dk_seg dksL_law_53 24 rfl rfl
theorem dksL_law_55 : cL_law.data.toList.drop 1417 = dktL_law_55 := dk_seg dksL_law_54 24 rfl rfl
theorem dksL_law_56 : cL_law.data.toList.drop 1441 = dktL_law_56 := dk_seg dksL_law_55 24 rfl rfl
theorem dksL_law_57 : cL_law.data.toList.drop 1465 = dktL_law_57 := dk_seg dksL_law_56 24 rfl rfl
theorem dksL_law_58 : cL_law.data.toList.drop 1489 = dktL_law_58 := dk_seg dksL_law_57 24 rfl rfl
theorem dksL_law_59 : cL_law.data.toList.drop 1511 = dktL_law_59 := dk_seg dksL_law_58 22 rfl rfl
theorem dksL_law_60 : cL_law.data.toList.drop 1535 = dktL_law_60 := dk_seg dksL_law_59 24 rfl rfl
theorem dksL_law_61 : cL_law.data.toList.drop 1559 = dktL_law_61 := dk_seg dksL_law_60 24 rfl rfl
theorem dksL_law_62 : cL_law.data.toList.drop 1582 = dktL_law_62 := dk_seg dksL_law_61 23 rfl rfl
theorem dksL_law_63 : cL_law.data.toList.drop 1606 = dktL_law_63 := dk_seg dksL_law_62 24 rfl rfl
theorem dksL_law_64 : cL_law.data.toList.drop 1629 = dktL_law_64 := dk_seg dksL_law_63 23 rfl rfl
theorem dksL_law_65 : cL_law.data.toList.drop 1653 = dktL_law_65 := dk_seg dksL_law_64 24 rfl rfl
theorem dksL_law_66 : cL_law.data.toList.drop 1675 = dktL_law_66 := dk_seg dksL_law_65 22 rfl rfl
theorem dksL_law_67 : cL_law.data.toList.drop 1697 = dktL_law_67 := dk_seg dksL_law_66 22 rfl rfl
theorem dksL_law_68 : cL_law.data.toList.drop 1721 = dktL_law_68 := dk_seg dksL_law_67 24 rfl rfl
theorem dksL_law_69 : cL_law.data.toList.drop 1743 = dktL_law_69 := dk_seg dksL_law_68 22 rfl rfl
theorem dksL_law_70 : cL_law.data.toList.drop 1765 = dktL_law_70 := dk_seg dksL_law_69 22 rfl rfl
theorem dksL_law_71 : cL_law.data.toList.drop 1787 = dktL_law_71 := dk_seg dksL_law_70 22 rfl rfl
theorem dksL_law_72 : cL_law.data.toList.drop 1809 = dktL_law_72 := dk_seg dksL_law_71 22 rfl rfl
theorem dksL_law_73 : cL_law.data.toList.drop 1831 = dktL_law_73 := dk_seg dksL_law_72 22 rfl rfl
theorem dksL_law_74 : cL_law.data.toList.drop 1854 = dktL_law_74 := dk_seg dksL_law_73 23 rfl rfl
theorem dksL_law_75 : cL_law.data.toList.drop 1877 = dktL_law_75 := dk_seg dksL_law_74 23 rfl rfl
theorem dksL_law_76 : cL_law.data.toList.drop 1901 = dktL_law_76 := dk_seg dksL_law_75 24 rfl rfl
theorem dksL_law_77 : cL_law.data.toList.drop 1924 = dktL_law_77 := dk_seg dksL_law_76 23 rfl rfl
theorem dksL_law_78 : cL_law.data.toList.drop 1948 = dktL_law_78 := dk_seg dksL_law_77 24 rfl rfl
theorem dksL_law_79 : cL_law.data.toList.drop 1971 = dktL_law_79 := dk_seg dksL_law_78 23 rfl rfl
theorem dksL_law_80 : cL_law.data.toList.drop 1995 = dktL_law_80 := dk_seg dksL_law_79 24 rfl rfl
theorem dksL_law_81 : cL_law.data.toList.drop 2019 = dktL_law_81 := dk_seg dksL_law_80 24 rfl rfl
theorem dksL_law_82 : cL_law.data.toList.drop 2042 = dktL_law_82 := dk_seg dksL_law_81 23 rfl rfl
theorem dksL_law_83 : cL_law.data.toList.drop 2066 = dktL_law_83 := dk_seg dksL_law_82 24 rfl rfl
theorem dksL_law_84 : cL_law.data.toList.drop 2089 = dktL_law_84 := dk_seg dksL_law_83 23 rfl rfl
theorem dksL_law_85 : cL_law.data.toList.drop 2113 = dktL_law_85 := dk_seg dksL_law_84 24 rfl rfl
theorem dksL_law_86 : cL_law.data.toList.drop 2135 = dktL_law_86 := dk_seg dksL_law_85 22 rfl rfl
theorem dksL_law_87 : cL_law.data.toList.drop 2159 = dktL_law_87 := dk_seg dksL_law_86 24 rfl rfl
theorem dksL_law_88 : cL_law.data.toList.drop 2183 = dktL_law_88 := dk_seg dksL_law_87 24 rfl rfl
theorem dksL_law_89 : cL_law.data.toList.drop 2206 = dktL_law_89 := dk_seg dksL_law_88 23 rfl rfl
theorem dksL_law_90 : cL_law.data.toList.drop 2230 = dktL_law_90 := dk_seg dksL_law_89 24 rfl rfl
theorem dksL_law_91 : cL_law.data.toList.drop 2253 = dktL_law_91 := dk_seg dksL_law_90 23 rfl rfl
theorem dksL_law_92 : cL_law.data.toList.drop 2275 = dktL_law_92 := dk_seg dksL_law_91 22 rfl rfl
theorem dksL_law_93 : cL_law.data.toList.drop 2298 = dktL_law_93 := dk_seg dksL_law_92 23 rfl rfl
theorem dksL_law_94 : cL_law.data.toList.drop 2322 = dktL_law_94 := dk_seg dksL_law_93 24 rfl rfl
theorem dksL_law_95 : cL_law.data.toList.drop 2346 = dktL_law_95 := dk_seg dksL_law_94 24 rfl rfl
theorem dL_law_0 : decode cL_law 0 = .ok (.new 8, 3) := dk_187 0 8 (dk_at dksL_law_0 0 rfl rfl)
theorem dL_law_3 : decode cL_law 3 = .ok (.dup, 1) := dk_89 (dk_at dksL_law_0 3 rfl rfl)
theorem dL_law_4 : decode cL_law 4 = .ok (.invokespecial 131, 3) := dk_183 0 131 (dk_at dksL_law_0 4 rfl rfl)
theorem dL_law_7 : decode cL_law 7 = .ok (.astore_n 1, 1) := dk_76 (dk_at dksL_law_0 7 rfl rfl)
theorem dL_law_8 : decode cL_law 8 = .ok (.new 132, 3) := dk_187 0 132 (dk_at dksL_law_0 8 rfl rfl)
theorem dL_law_11 : decode cL_law 11 = .ok (.dup, 1) := dk_89 (dk_at dksL_law_0 11 rfl rfl)
theorem dL_law_12 : decode cL_law 12 = .ok (.invokespecial 134, 3) := dk_183 0 134 (dk_at dksL_law_0 12 rfl rfl)
theorem dL_law_15 : decode cL_law 15 = .ok (.astore_n 2, 1) := dk_77 (dk_at dksL_law_0 15 rfl rfl)
theorem dL_law_16 : decode cL_law 16 = .ok (.iconst 1, 1) := dk_4 (dk_at dksL_law_0 16 rfl rfl)
theorem dL_law_17 : decode cL_law 17 = .ok (.newarray .long, 2) := dk_188_11 (dk_at dksL_law_0 17 rfl rfl)
theorem dL_law_19 : decode cL_law 19 = .ok (.astore_n 3, 1) := dk_78 (dk_at dksL_law_0 19 rfl rfl)
theorem dL_law_20 : decode cL_law 20 = .ok (.iconst 1, 1) := dk_4 (dk_at dksL_law_0 20 rfl rfl)
theorem dL_law_21 : decode cL_law 21 = .ok (.newarray .double, 2) := dk_188_7 (dk_at dksL_law_0 21 rfl rfl)
theorem dL_law_23 : decode cL_law 23 = .ok (.astore 4, 2) := dk_58 4 (dk_at dksL_law_1 0 rfl rfl)
theorem dL_law_25 : decode cL_law 25 = .ok (.iconst 0, 1) := dk_3 (dk_at dksL_law_1 2 rfl rfl)
theorem dL_law_26 : decode cL_law 26 = .ok (.istore 5, 2) := dk_54 5 (dk_at dksL_law_1 3 rfl rfl)
theorem dL_law_28 : decode cL_law 28 = .ok (.iload 5, 2) := dk_21 5 (dk_at dksL_law_1 5 rfl rfl)
theorem dL_law_30 : decode cL_law 30 = .ok (.aload_n 0, 1) := dk_42 (dk_at dksL_law_1 7 rfl rfl)
theorem dL_law_31 : decode cL_law 31 = .ok (.arraylength, 1) := dk_190 (dk_at dksL_law_1 8 rfl rfl)
theorem dL_law_32 : decode cL_law 32 = .ok (.iconst 4, 1) := dk_7 (dk_at dksL_law_1 9 rfl rfl)
theorem dL_law_33 : decode cL_law 33 = .ok (.isub, 1) := dk_100 (dk_at dksL_law_1 10 rfl rfl)
theorem dL_law_34 : decode cL_law 34 = .ok (.if_icmp .gt 2312, 3) := dk_163 9 8 (dk_at dksL_law_1 11 rfl rfl)
theorem dL_law_37 : decode cL_law 37 = .ok (.aload_n 0, 1) := dk_42 (dk_at dksL_law_1 14 rfl rfl)
theorem dL_law_38 : decode cL_law 38 = .ok (.iload 5, 2) := dk_21 5 (dk_at dksL_law_1 15 rfl rfl)
theorem dL_law_40 : decode cL_law 40 = .ok (.iaload, 1) := dk_46 (dk_at dksL_law_1 17 rfl rfl)
theorem dL_law_41 : decode cL_law 41 = .ok (.bipush 63, 2) := dk_16 63 (dk_at dksL_law_1 18 rfl rfl)
theorem dL_law_43 : decode cL_law 43 = .ok (.iand, 1) := dk_126 (dk_at dksL_law_1 20 rfl rfl)
theorem dL_law_44 : decode cL_law 44 = .ok (.tableswitch 2296 0 35 #[160, 228, 308, 376, 432, 500, 568, 643, 711, 769, 825, 881, 949, 1005, 1049, 1093, 1161, 1217, 1282, 1338, 1406, 1447, 1527, 1571, 1639, 1707, 1751, 1795, 1851, 1907, 1963, 2031, 2127, 2195, 2239, 2252], 160) := by decide +kernel
theorem dL_law_204 : decode cL_law 204 = .ok (.aload_n 1, 1) := dk_43 (dk_at dksL_law_3 0 rfl rfl)
theorem dL_law_205 : decode cL_law 205 = .ok (.aload_n 0, 1) := dk_42 (dk_at dksL_law_3 1 rfl rfl)
theorem dL_law_206 : decode cL_law 206 = .ok (.iload 5, 2) := dk_21 5 (dk_at dksL_law_3 2 rfl rfl)
theorem dL_law_208 : decode cL_law 208 = .ok (.iconst 1, 1) := dk_4 (dk_at dksL_law_3 4 rfl rfl)
theorem dL_law_209 : decode cL_law 209 = .ok (.iadd, 1) := dk_96 (dk_at dksL_law_3 5 rfl rfl)
theorem dL_law_210 : decode cL_law 210 = .ok (.iaload, 1) := dk_46 (dk_at dksL_law_3 6 rfl rfl)
theorem dL_law_211 : decode cL_law 211 = .ok (.aload_n 0, 1) := dk_42 (dk_at dksL_law_3 7 rfl rfl)
theorem dL_law_212 : decode cL_law 212 = .ok (.iload 5, 2) := dk_21 5 (dk_at dksL_law_3 8 rfl rfl)
theorem dL_law_214 : decode cL_law 214 = .ok (.iconst 2, 1) := dk_5 (dk_at dksL_law_3 10 rfl rfl)
theorem dL_law_215 : decode cL_law 215 = .ok (.iadd, 1) := dk_96 (dk_at dksL_law_3 11 rfl rfl)
theorem dL_law_216 : decode cL_law 216 = .ok (.iaload, 1) := dk_46 (dk_at dksL_law_3 12 rfl rfl)
theorem dL_law_217 : decode cL_law 217 = .ok (.aload_n 3, 1) := dk_45 (dk_at dksL_law_3 13 rfl rfl)
theorem dL_law_218 : decode cL_law 218 = .ok (.invokestatic 135, 3) := dk_184 0 135 (dk_at dksL_law_3 14 rfl rfl)
theorem dL_law_221 : decode cL_law 221 = .ok (.istore 6, 2) := dk_54 6 (dk_at dksL_law_3 17 rfl rfl)
theorem dL_law_223 : decode cL_law 223 = .ok (.aload_n 2, 1) := dk_44 (dk_at dksL_law_3 19 rfl rfl)
theorem dL_law_224 : decode cL_law 224 = .ok (.aload_n 0, 1) := dk_42 (dk_at dksL_law_3 20 rfl rfl)
theorem dL_law_225 : decode cL_law 225 = .ok (.iload 5, 2) := dk_21 5 (dk_at dksL_law_3 21 rfl rfl)
theorem dL_law_227 : decode cL_law 227 = .ok (.iconst 1, 1) := dk_4 (dk_at dksL_law_3 23 rfl rfl)
theorem dL_law_228 : decode cL_law 228 = .ok (.iadd, 1) := dk_96 (dk_at dksL_law_4 0 rfl rfl)
theorem dL_law_229 : decode cL_law 229 = .ok (.iaload, 1) := dk_46 (dk_at dksL_law_4 1 rfl rfl)
theorem dL_law_230 : decode cL_law 230 = .ok (.aload_n 0, 1) := dk_42 (dk_at dksL_law_4 2 rfl rfl)
theorem dL_law_231 : decode cL_law 231 = .ok (.iload 5, 2) := dk_21 5 (dk_at dksL_law_4 3 rfl rfl)
theorem dL_law_233 : decode cL_law 233 = .ok (.iconst 2, 1) := dk_5 (dk_at dksL_law_4 5 rfl rfl)
theorem dL_law_234 : decode cL_law 234 = .ok (.iadd, 1) := dk_96 (dk_at dksL_law_4 6 rfl rfl)
theorem dL_law_235 : decode cL_law 235 = .ok (.iaload, 1) := dk_46 (dk_at dksL_law_4 7 rfl rfl)
theorem dL_law_236 : decode cL_law 236 = .ok (.invokevirtual 140, 3) := dk_182 0 140 (dk_at dksL_law_4 8 rfl rfl)
theorem dL_law_239 : decode cL_law 239 = .ok (.istore 7, 2) := dk_54 7 (dk_at dksL_law_4 11 rfl rfl)
theorem dL_law_241 : decode cL_law 241 = .ok (.aload_n 2, 1) := dk_44 (dk_at dksL_law_4 13 rfl rfl)
theorem dL_law_242 : decode cL_law 242 = .ok (.invokevirtual 141, 3) := dk_182 0 141 (dk_at dksL_law_4 14 rfl rfl)
theorem dL_law_245 : decode cL_law 245 = .ok (.iload 6, 2) := dk_21 6 (dk_at dksL_law_4 17 rfl rfl)
theorem dL_law_247 : decode cL_law 247 = .ok (.if_icmp .eq 5, 3) := dk_159 0 5 (dk_at dksL_law_4 19 rfl rfl)
theorem dL_law_250 : decode cL_law 250 = .ok (.iconst 0, 1) := dk_3 (dk_at dksL_law_4 22 rfl rfl)
theorem dL_law_251 : decode cL_law 251 = .ok (.ireturn, 1) := dk_172 (dk_at dksL_law_4 23 rfl rfl)
theorem dL_law_252 : decode cL_law 252 = .ok (.iload 6, 2) := dk_21 6 (dk_at dksL_law_5 0 rfl rfl)
theorem dL_law_254 : decode cL_law 254 = .ok (.ifCond .ne 15, 3) := dk_154 0 15 (dk_at dksL_law_5 2 rfl rfl)
theorem dL_law_257 : decode cL_law 257 = .ok (.aload_n 3, 1) := dk_45 (dk_at dksL_law_5 5 rfl rfl)
theorem dL_law_258 : decode cL_law 258 = .ok (.iconst 0, 1) := dk_3 (dk_at dksL_law_5 6 rfl rfl)
theorem dL_law_259 : decode cL_law 259 = .ok (.laload, 1) := dk_47 (dk_at dksL_law_5 7 rfl rfl)
theorem dL_law_260 : decode cL_law 260 = .ok (.iload 7, 2) := dk_21 7 (dk_at dksL_law_5 8 rfl rfl)
theorem dL_law_262 : decode cL_law 262 = .ok (.i2l, 1) := dk_133 (dk_at dksL_law_5 10 rfl rfl)
theorem dL_law_263 : decode cL_law 263 = .ok (.lcmp, 1) := dk_148 (dk_at dksL_law_5 11 rfl rfl)
theorem dL_law_264 : decode cL_law 264 = .ok (.ifCond .eq 5, 3) := dk_153 0 5 (dk_at dksL_law_5 12 rfl rfl)
theorem dL_law_267 : decode cL_law 267 = .ok (.iconst 0, 1) := dk_3 (dk_at dksL_law_5 15 rfl rfl)
theorem dL_law_268 : decode cL_law 268 = .ok (.ireturn, 1) := dk_172 (dk_at dksL_law_5 16 rfl rfl)
theorem dL_law_269 : decode cL_law 269 = .ok (.goto 2071, 3) := dk_167 8 23 (dk_at dksL_law_5 17 rfl rfl)
theorem dL_law_272 : decode cL_law 272 = .ok (.aload_n 1, 1) := dk_43 (dk_at dksL_law_5 20 rfl rfl)
theorem dL_law_273 : decode cL_law 273 = .ok (.aload_n 0, 1) := dk_42 (dk_at dksL_law_5 21 rfl rfl)
theorem dL_law_274 : decode cL_law 274 = .ok (.iload 5, 2) := dk_21 5 (dk_at dksL_law_5 22 rfl rfl)
theorem dL_law_276 : decode cL_law 276 = .ok (.iconst 1, 1) := dk_4 (dk_at dksL_law_6 0 rfl rfl)
theorem dL_law_277 : decode cL_law 277 = .ok (.iadd, 1) := dk_96 (dk_at dksL_law_6 1 rfl rfl)
theorem dL_law_278 : decode cL_law 278 = .ok (.iaload, 1) := dk_46 (dk_at dksL_law_6 2 rfl rfl)
theorem dL_law_279 : decode cL_law 279 = .ok (.aload_n 0, 1) := dk_42 (dk_at dksL_law_6 3 rfl rfl)
theorem dL_law_280 : decode cL_law 280 = .ok (.iload 5, 2) := dk_21 5 (dk_at dksL_law_6 4 rfl rfl)
theorem dL_law_282 : decode cL_law 282 = .ok (.iconst 2, 1) := dk_5 (dk_at dksL_law_6 6 rfl rfl)
theorem dL_law_283 : decode cL_law 283 = .ok (.iadd, 1) := dk_96 (dk_at dksL_law_6 7 rfl rfl)
theorem dL_law_284 : decode cL_law 284 = .ok (.iaload, 1) := dk_46 (dk_at dksL_law_6 8 rfl rfl)
theorem dL_law_285 : decode cL_law 285 = .ok (.aload_n 0, 1) := dk_42 (dk_at dksL_law_6 9 rfl rfl)
theorem dL_law_286 : decode cL_law 286 = .ok (.iload 5, 2) := dk_21 5 (dk_at dksL_law_6 10 rfl rfl)
theorem dL_law_288 : decode cL_law 288 = .ok (.iconst 3, 1) := dk_6 (dk_at dksL_law_6 12 rfl rfl)
theorem dL_law_289 : decode cL_law 289 = .ok (.iadd, 1) := dk_96 (dk_at dksL_law_6 13 rfl rfl)
theorem dL_law_290 : decode cL_law 290 = .ok (.iaload, 1) := dk_46 (dk_at dksL_law_6 14 rfl rfl)
theorem dL_law_291 : decode cL_law 291 = .ok (.aload_n 3, 1) := dk_45 (dk_at dksL_law_6 15 rfl rfl)
theorem dL_law_292 : decode cL_law 292 = .ok (.invokestatic 144, 3) := dk_184 0 144 (dk_at dksL_law_6 16 rfl rfl)
theorem dL_law_295 : decode cL_law 295 = .ok (.istore 6, 2) := dk_54 6 (dk_at dksL_law_6 19 rfl rfl)
theorem dL_law_297 : decode cL_law 297 = .ok (.aload_n 2, 1) := dk_44 (dk_at dksL_law_6 21 rfl rfl)
theorem dL_law_298 : decode cL_law 298 = .ok (.aload_n 0, 1) := dk_42 (dk_at dksL_law_6 22 rfl rfl)
theorem dL_law_299 : decode cL_law 299 = .ok (.iload 5, 2) := dk_21 5 (dk_at dksL_law_7 0 rfl rfl)
theorem dL_law_301 : decode cL_law 301 = .ok (.iconst 1, 1) := dk_4 (dk_at dksL_law_7 2 rfl rfl)
theorem dL_law_302 : decode cL_law 302 = .ok (.iadd, 1) := dk_96 (dk_at dksL_law_7 3 rfl rfl)
theorem dL_law_303 : decode cL_law 303 = .ok (.iaload, 1) := dk_46 (dk_at dksL_law_7 4 rfl rfl)
theorem dL_law_304 : decode cL_law 304 = .ok (.aload_n 0, 1) := dk_42 (dk_at dksL_law_7 5 rfl rfl)
theorem dL_law_305 : decode cL_law 305 = .ok (.iload 5, 2) := dk_21 5 (dk_at dksL_law_7 6 rfl rfl)
theorem dL_law_307 : decode cL_law 307 = .ok (.iconst 2, 1) := dk_5 (dk_at dksL_law_7 8 rfl rfl)
theorem dL_law_308 : decode cL_law 308 = .ok (.iadd, 1) := dk_96 (dk_at dksL_law_7 9 rfl rfl)
theorem dL_law_309 : decode cL_law 309 = .ok (.iaload, 1) := dk_46 (dk_at dksL_law_7 10 rfl rfl)
theorem dL_law_310 : decode cL_law 310 = .ok (.aload_n 0, 1) := dk_42 (dk_at dksL_law_7 11 rfl rfl)
theorem dL_law_311 : decode cL_law 311 = .ok (.iload 5, 2) := dk_21 5 (dk_at dksL_law_7 12 rfl rfl)
theorem dL_law_313 : decode cL_law 313 = .ok (.iconst 3, 1) := dk_6 (dk_at dksL_law_7 14 rfl rfl)
theorem dL_law_314 : decode cL_law 314 = .ok (.iadd, 1) := dk_96 (dk_at dksL_law_7 15 rfl rfl)
theorem dL_law_315 : decode cL_law 315 = .ok (.iaload, 1) := dk_46 (dk_at dksL_law_7 16 rfl rfl)
theorem dL_law_316 : decode cL_law 316 = .ok (.invokevirtual 147, 3) := dk_182 0 147 (dk_at dksL_law_7 17 rfl rfl)
theorem dL_law_319 : decode cL_law 319 = .ok (.istore 7, 2) := dk_54 7 (dk_at dksL_law_7 20 rfl rfl)
theorem dL_law_321 : decode cL_law 321 = .ok (.aload_n 2, 1) := dk_44 (dk_at dksL_law_7 22 rfl rfl)
theorem dL_law_322 : decode cL_law 322 = .ok (.invokevirtual 141, 3) := dk_182 0 141 (dk_at dksL_law_8 0 rfl rfl)
theorem dL_law_325 : decode cL_law 325 = .ok (.iload 6, 2) := dk_21 6 (dk_at dksL_law_8 3 rfl rfl)
theorem dL_law_327 : decode cL_law 327 = .ok (.if_icmp .eq 5, 3) := dk_159 0 5 (dk_at dksL_law_8 5 rfl rfl)
theorem dL_law_330 : decode cL_law 330 = .ok (.iconst 0, 1) := dk_3 (dk_at dksL_law_8 8 rfl rfl)
theorem dL_law_331 : decode cL_law 331 = .ok (.ireturn, 1) := dk_172 (dk_at dksL_law_8 9 rfl rfl)
theorem dL_law_332 : decode cL_law 332 = .ok (.iload 6, 2) := dk_21 6 (dk_at dksL_law_8 10 rfl rfl)
theorem dL_law_334 : decode cL_law 334 = .ok (.ifCond .ne 15, 3) := dk_154 0 15 (dk_at dksL_law_8 12 rfl rfl)
theorem dL_law_337 : decode cL_law 337 = .ok (.aload_n 3, 1) := dk_45 (dk_at dksL_law_8 15 rfl rfl)
theorem dL_law_338 : decode cL_law 338 = .ok (.iconst 0, 1) := dk_3 (dk_at dksL_law_8 16 rfl rfl)
theorem dL_law_339 : decode cL_law 339 = .ok (.laload, 1) := dk_47 (dk_at dksL_law_8 17 rfl rfl)
theorem dL_law_340 : decode cL_law 340 = .ok (.iload 7, 2) := dk_21 7 (dk_at dksL_law_8 18 rfl rfl)
theorem dL_law_342 : decode cL_law 342 = .ok (.i2l, 1) := dk_133 (dk_at dksL_law_8 20 rfl rfl)
theorem dL_law_343 : decode cL_law 343 = .ok (.lcmp, 1) := dk_148 (dk_at dksL_law_8 21 rfl rfl)
theorem dL_law_344 : decode cL_law 344 = .ok (.ifCond .eq 5, 3) := dk_153 0 5 (dk_at dksL_law_9 0 rfl rfl)
theorem dL_law_347 : decode cL_law 347 = .ok (.iconst 0, 1) := dk_3 (dk_at dksL_law_9 3 rfl rfl)
theorem dL_law_348 : decode cL_law 348 = .ok (.ireturn, 1) := dk_172 (dk_at dksL_law_9 4 rfl rfl)
theorem dL_law_349 : decode cL_law 349 = .ok (.goto 1991, 3) := dk_167 7 199 (dk_at dksL_law_9 5 rfl rfl)
theorem dL_law_352 : decode cL_law 352 = .ok (.aload_n 1, 1) := dk_43 (dk_at dksL_law_9 8 rfl rfl)
theorem dL_law_353 : decode cL_law 353 = .ok (.aload_n 0, 1) := dk_42 (dk_at dksL_law_9 9 rfl rfl)
theorem dL_law_354 : decode cL_law 354 = .ok (.iload 5, 2) := dk_21 5 (dk_at dksL_law_9 10 rfl rfl)
theorem dL_law_356 : decode cL_law 356 = .ok (.iconst 1, 1) := dk_4 (dk_at dksL_law_9 12 rfl rfl)
theorem dL_law_357 : decode cL_law 357 = .ok (.iadd, 1) := dk_96 (dk_at dksL_law_9 13 rfl rfl)
theorem dL_law_358 : decode cL_law 358 = .ok (.iaload, 1) := dk_46 (dk_at dksL_law_9 14 rfl rfl)
theorem dL_law_359 : decode cL_law 359 = .ok (.aload_n 0, 1) := dk_42 (dk_at dksL_law_9 15 rfl rfl)
theorem dL_law_360 : decode cL_law 360 = .ok (.iload 5, 2) := dk_21 5 (dk_at dksL_law_9 16 rfl rfl)
theorem dL_law_362 : decode cL_law 362 = .ok (.iconst 2, 1) := dk_5 (dk_at dksL_law_9 18 rfl rfl)
theorem dL_law_363 : decode cL_law 363 = .ok (.iadd, 1) := dk_96 (dk_at dksL_law_9 19 rfl rfl)
theorem dL_law_364 : decode cL_law 364 = .ok (.iaload, 1) := dk_46 (dk_at dksL_law_9 20 rfl rfl)
theorem dL_law_365 : decode cL_law 365 = .ok (.aload_n 3, 1) := dk_45 (dk_at dksL_law_9 21 rfl rfl)
theorem dL_law_366 : decode cL_law 366 = .ok (.invokestatic 148, 3) := dk_184 0 148 (dk_at dksL_law_10 0 rfl rfl)
theorem dL_law_369 : decode cL_law 369 = .ok (.istore 6, 2) := dk_54 6 (dk_at dksL_law_10 3 rfl rfl)
theorem dL_law_371 : decode cL_law 371 = .ok (.aload_n 2, 1) := dk_44 (dk_at dksL_law_10 5 rfl rfl)
theorem dL_law_372 : decode cL_law 372 = .ok (.aload_n 0, 1) := dk_42 (dk_at dksL_law_10 6 rfl rfl)
theorem dL_law_373 : decode cL_law 373 = .ok (.iload 5, 2) := dk_21 5 (dk_at dksL_law_10 7 rfl rfl)
theorem dL_law_375 : decode cL_law 375 = .ok (.iconst 1, 1) := dk_4 (dk_at dksL_law_10 9 rfl rfl)
theorem dL_law_376 : decode cL_law 376 = .ok (.iadd, 1) := dk_96 (dk_at dksL_law_10 10 rfl rfl)
theorem dL_law_377 : decode cL_law 377 = .ok (.iaload, 1) := dk_46 (dk_at dksL_law_10 11 rfl rfl)
theorem dL_law_378 : decode cL_law 378 = .ok (.aload_n 0, 1) := dk_42 (dk_at dksL_law_10 12 rfl rfl)
theorem dL_law_379 : decode cL_law 379 = .ok (.iload 5, 2) := dk_21 5 (dk_at dksL_law_10 13 rfl rfl)
theorem dL_law_381 : decode cL_law 381 = .ok (.iconst 2, 1) := dk_5 (dk_at dksL_law_10 15 rfl rfl)
theorem dL_law_382 : decode cL_law 382 = .ok (.iadd, 1) := dk_96 (dk_at dksL_law_10 16 rfl rfl)
theorem dL_law_383 : decode cL_law 383 = .ok (.iaload, 1) := dk_46 (dk_at dksL_law_10 17 rfl rfl)
theorem dL_law_384 : decode cL_law 384 = .ok (.invokevirtual 150, 3) := dk_182 0 150 (dk_at dksL_law_10 18 rfl rfl)
theorem dL_law_387 : decode cL_law 387 = .ok (.istore 7, 2) := dk_54 7 (dk_at dksL_law_10 21 rfl rfl)
theorem dL_law_389 : decode cL_law 389 = .ok (.aload_n 2, 1) := dk_44 (dk_at dksL_law_10 23 rfl rfl)
theorem dL_law_390 : decode cL_law 390 = .ok (.invokevirtual 141, 3) := dk_182 0 141 (dk_at dksL_law_11 0 rfl rfl)
theorem dL_law_393 : decode cL_law 393 = .ok (.iload 6, 2) := dk_21 6 (dk_at dksL_law_11 3 rfl rfl)
theorem dL_law_395 : decode cL_law 395 = .ok (.if_icmp .eq 5, 3) := dk_159 0 5 (dk_at dksL_law_11 5 rfl rfl)
theorem dL_law_398 : decode cL_law 398 = .ok (.iconst 0, 1) := dk_3 (dk_at dksL_law_11 8 rfl rfl)
theorem dL_law_399 : decode cL_law 399 = .ok (.ireturn, 1) := dk_172 (dk_at dksL_law_11 9 rfl rfl)
theorem dL_law_400 : decode cL_law 400 = .ok (.iload 6, 2) := dk_21 6 (dk_at dksL_law_11 10 rfl rfl)
theorem dL_law_402 : decode cL_law 402 = .ok (.ifCond .ne 15, 3) := dk_154 0 15 (dk_at dksL_law_11 12 rfl rfl)
theorem dL_law_405 : decode cL_law 405 = .ok (.aload_n 3, 1) := dk_45 (dk_at dksL_law_11 15 rfl rfl)
theorem dL_law_406 : decode cL_law 406 = .ok (.iconst 0, 1) := dk_3 (dk_at dksL_law_11 16 rfl rfl)
theorem dL_law_407 : decode cL_law 407 = .ok (.laload, 1) := dk_47 (dk_at dksL_law_11 17 rfl rfl)
theorem dL_law_408 : decode cL_law 408 = .ok (.iload 7, 2) := dk_21 7 (dk_at dksL_law_11 18 rfl rfl)
theorem dL_law_410 : decode cL_law 410 = .ok (.i2l, 1) := dk_133 (dk_at dksL_law_11 20 rfl rfl)
theorem dL_law_411 : decode cL_law 411 = .ok (.lcmp, 1) := dk_148 (dk_at dksL_law_11 21 rfl rfl)
theorem dL_law_412 : decode cL_law 412 = .ok (.ifCond .eq 5, 3) := dk_153 0 5 (dk_at dksL_law_12 0 rfl rfl)
theorem dL_law_415 : decode cL_law 415 = .ok (.iconst 0, 1) := dk_3 (dk_at dksL_law_12 3 rfl rfl)
theorem dL_law_416 : decode cL_law 416 = .ok (.ireturn, 1) := dk_172 (dk_at dksL_law_12 4 rfl rfl)
theorem dL_law_417 : decode cL_law 417 = .ok (.goto 1923, 3) := dk_167 7 131 (dk_at dksL_law_12 5 rfl rfl)
theorem dL_law_420 : decode cL_law 420 = .ok (.aload_n 1, 1) := dk_43 (dk_at dksL_law_12 8 rfl rfl)
theorem dL_law_421 : decode cL_law 421 = .ok (.aload_n 0, 1) := dk_42 (dk_at dksL_law_12 9 rfl rfl)
theorem dL_law_422 : decode cL_law 422 = .ok (.iload 5, 2) := dk_21 5 (dk_at dksL_law_12 10 rfl rfl)
theorem dL_law_424 : decode cL_law 424 = .ok (.iconst 1, 1) := dk_4 (dk_at dksL_law_12 12 rfl rfl)
theorem dL_law_425 : decode cL_law 425 = .ok (.iadd, 1) := dk_96 (dk_at dksL_law_12 13 rfl rfl)
theorem dL_law_426 : decode cL_law 426 = .ok (.iaload, 1) := dk_46 (dk_at dksL_law_12 14 rfl rfl)
theorem dL_law_427 : decode cL_law 427 = .ok (.aload_n 3, 1) := dk_45 (dk_at dksL_law_12 15 rfl rfl)
theorem dL_law_428 : decode cL_law 428 = .ok (.invokestatic 151, 3) := dk_184 0 151 (dk_at dksL_law_12 16 rfl rfl)
theorem dL_law_431 : decode cL_law 431 = .ok (.istore 6, 2) := dk_54 6 (dk_at dksL_law_12 19 rfl rfl)
theorem dL_law_433 : decode cL_law 433 = .ok (.aload_n 2, 1) := dk_44 (dk_at dksL_law_12 21 rfl rfl)
theorem dL_law_434 : decode cL_law 434 = .ok (.aload_n 0, 1) := dk_42 (dk_at dksL_law_12 22 rfl rfl)
theorem dL_law_435 : decode cL_law 435 = .ok (.iload 5, 2) := dk_21 5 (dk_at dksL_law_13 0 rfl rfl)
theorem dL_law_437 : decode cL_law 437 = .ok (.iconst 1, 1) := dk_4 (dk_at dksL_law_13 2 rfl rfl)
theorem dL_law_438 : decode cL_law 438 = .ok (.iadd, 1) := dk_96 (dk_at dksL_law_13 3 rfl rfl)
theorem dL_law_439 : decode cL_law 439 = .ok (.iaload, 1) := dk_46 (dk_at dksL_law_13 4 rfl rfl)
theorem dL_law_440 : decode cL_law 440 = .ok (.invokevirtual 154, 3) := dk_182 0 154 (dk_at dksL_law_13 5 rfl rfl)
theorem dL_law_443 : decode cL_law 443 = .ok (.istore 7, 2) := dk_54 7 (dk_at dksL_law_13 8 rfl rfl)
theorem dL_law_445 : decode cL_law 445 = .ok (.aload_n 2, 1) := dk_44 (dk_at dksL_law_13 10 rfl rfl)
theorem dL_law_446 : decode cL_law 446 = .ok (.invokevirtual 141, 3) := dk_182 0 141 (dk_at dksL_law_13 11 rfl rfl)
theorem dL_law_449 : decode cL_law 449 = .ok (.iload 6, 2) := dk_21 6 (dk_at dksL_law_13 14 rfl rfl)
theorem dL_law_451 : decode cL_law 451 = .ok (.if_icmp .eq 5, 3) := dk_159 0 5 (dk_at dksL_law_13 16 rfl rfl)
theorem dL_law_454 : decode cL_law 454 = .ok (.iconst 0, 1) := dk_3 (dk_at dksL_law_13 19 rfl rfl)
theorem dL_law_455 : decode cL_law 455 = .ok (.ireturn, 1) := dk_172 (dk_at dksL_law_13 20 rfl rfl)
theorem dL_law_456 : decode cL_law 456 = .ok (.iload 6, 2) := dk_21 6 (dk_at dksL_law_13 21 rfl rfl)
theorem dL_law_458 : decode cL_law 458 = .ok (.ifCond .ne 15, 3) := dk_154 0 15 (dk_at dksL_law_14 0 rfl rfl)
theorem dL_law_461 : decode cL_law 461 = .ok (.aload_n 3, 1) := dk_45 (dk_at dksL_law_14 3 rfl rfl)
theorem dL_law_462 : decode cL_law 462 = .ok (.iconst 0, 1) := dk_3 (dk_at dksL_law_14 4 rfl rfl)
theorem dL_law_463 : decode cL_law 463 = .ok (.laload, 1) := dk_47 (dk_at dksL_law_14 5 rfl rfl)
theorem dL_law_464 : decode cL_law 464 = .ok (.iload 7, 2) := dk_21 7 (dk_at dksL_law_14 6 rfl rfl)
theorem dL_law_466 : decode cL_law 466 = .ok (.i2l, 1) := dk_133 (dk_at dksL_law_14 8 rfl rfl)
theorem dL_law_467 : decode cL_law 467 = .ok (.lcmp, 1) := dk_148 (dk_at dksL_law_14 9 rfl rfl)
theorem dL_law_468 : decode cL_law 468 = .ok (.ifCond .eq 5, 3) := dk_153 0 5 (dk_at dksL_law_14 10 rfl rfl)
theorem dL_law_471 : decode cL_law 471 = .ok (.iconst 0, 1) := dk_3 (dk_at dksL_law_14 13 rfl rfl)
theorem dL_law_472 : decode cL_law 472 = .ok (.ireturn, 1) := dk_172 (dk_at dksL_law_14 14 rfl rfl)
theorem dL_law_473 : decode cL_law 473 = .ok (.goto 1867, 3) := dk_167 7 75 (dk_at dksL_law_14 15 rfl rfl)
theorem dL_law_476 : decode cL_law 476 = .ok (.aload_n 1, 1) := dk_43 (dk_at dksL_law_14 18 rfl rfl)
theorem dL_law_477 : decode cL_law 477 = .ok (.aload_n 0, 1) := dk_42 (dk_at dksL_law_14 19 rfl rfl)
theorem dL_law_478 : decode cL_law 478 = .ok (.iload 5, 2) := dk_21 5 (dk_at dksL_law_14 20 rfl rfl)
theorem dL_law_480 : decode cL_law 480 = .ok (.iconst 1, 1) := dk_4 (dk_at dksL_law_14 22 rfl rfl)
theorem dL_law_481 : decode cL_law 481 = .ok (.iadd, 1) := dk_96 (dk_at dksL_law_14 23 rfl rfl)
theorem dL_law_482 : decode cL_law 482 = .ok (.iaload, 1) := dk_46 (dk_at dksL_law_15 0 rfl rfl)
theorem dL_law_483 : decode cL_law 483 = .ok (.aload_n 0, 1) := dk_42 (dk_at dksL_law_15 1 rfl rfl)
theorem dL_law_484 : decode cL_law 484 = .ok (.iload 5, 2) := dk_21 5 (dk_at dksL_law_15 2 rfl rfl)
theorem dL_law_486 : decode cL_law 486 = .ok (.iconst 2, 1) := dk_5 (dk_at dksL_law_15 4 rfl rfl)
theorem dL_law_487 : decode cL_law 487 = .ok (.iadd, 1) := dk_96 (dk_at dksL_law_15 5 rfl rfl)
theorem dL_law_488 : decode cL_law 488 = .ok (.iaload, 1) := dk_46 (dk_at dksL_law_15 6 rfl rfl)
theorem dL_law_489 : decode cL_law 489 = .ok (.aload_n 3, 1) := dk_45 (dk_at dksL_law_15 7 rfl rfl)
theorem dL_law_490 : decode cL_law 490 = .ok (.invokestatic 155, 3) := dk_184 0 155 (dk_at dksL_law_15 8 rfl rfl)
theorem dL_law_493 : decode cL_law 493 = .ok (.istore 6, 2) := dk_54 6 (dk_at dksL_law_15 11 rfl rfl)
theorem dL_law_495 : decode cL_law 495 = .ok (.aload_n 2, 1) := dk_44 (dk_at dksL_law_15 13 rfl rfl)
theorem dL_law_496 : decode cL_law 496 = .ok (.aload_n 0, 1) := dk_42 (dk_at dksL_law_15 14 rfl rfl)
theorem dL_law_497 : decode cL_law 497 = .ok (.iload 5, 2) := dk_21 5 (dk_at dksL_law_15 15 rfl rfl)
theorem dL_law_499 : decode cL_law 499 = .ok (.iconst 1, 1) := dk_4 (dk_at dksL_law_15 17 rfl rfl)
theorem dL_law_500 : decode cL_law 500 = .ok (.iadd, 1) := dk_96 (dk_at dksL_law_15 18 rfl rfl)
theorem dL_law_501 : decode cL_law 501 = .ok (.iaload, 1) := dk_46 (dk_at dksL_law_15 19 rfl rfl)
theorem dL_law_502 : decode cL_law 502 = .ok (.aload_n 0, 1) := dk_42 (dk_at dksL_law_15 20 rfl rfl)
theorem dL_law_503 : decode cL_law 503 = .ok (.iload 5, 2) := dk_21 5 (dk_at dksL_law_15 21 rfl rfl)
theorem dL_law_505 : decode cL_law 505 = .ok (.iconst 2, 1) := dk_5 (dk_at dksL_law_15 23 rfl rfl)
theorem dL_law_506 : decode cL_law 506 = .ok (.iadd, 1) := dk_96 (dk_at dksL_law_16 0 rfl rfl)
theorem dL_law_507 : decode cL_law 507 = .ok (.iaload, 1) := dk_46 (dk_at dksL_law_16 1 rfl rfl)
theorem dL_law_508 : decode cL_law 508 = .ok (.invokevirtual 157, 3) := dk_182 0 157 (dk_at dksL_law_16 2 rfl rfl)
theorem dL_law_511 : decode cL_law 511 = .ok (.istore 7, 2) := dk_54 7 (dk_at dksL_law_16 5 rfl rfl)
theorem dL_law_513 : decode cL_law 513 = .ok (.aload_n 2, 1) := dk_44 (dk_at dksL_law_16 7 rfl rfl)
theorem dL_law_514 : decode cL_law 514 = .ok (.invokevirtual 141, 3) := dk_182 0 141 (dk_at dksL_law_16 8 rfl rfl)
theorem dL_law_517 : decode cL_law 517 = .ok (.iload 6, 2) := dk_21 6 (dk_at dksL_law_16 11 rfl rfl)
theorem dL_law_519 : decode cL_law 519 = .ok (.if_icmp .eq 5, 3) := dk_159 0 5 (dk_at dksL_law_16 13 rfl rfl)
theorem dL_law_522 : decode cL_law 522 = .ok (.iconst 0, 1) := dk_3 (dk_at dksL_law_16 16 rfl rfl)
theorem dL_law_523 : decode cL_law 523 = .ok (.ireturn, 1) := dk_172 (dk_at dksL_law_16 17 rfl rfl)
theorem dL_law_524 : decode cL_law 524 = .ok (.iload 6, 2) := dk_21 6 (dk_at dksL_law_16 18 rfl rfl)
theorem dL_law_526 : decode cL_law 526 = .ok (.ifCond .ne 15, 3) := dk_154 0 15 (dk_at dksL_law_16 20 rfl rfl)
theorem dL_law_529 : decode cL_law 529 = .ok (.aload_n 3, 1) := dk_45 (dk_at dksL_law_16 23 rfl rfl)
theorem dL_law_530 : decode cL_law 530 = .ok (.iconst 0, 1) := dk_3 (dk_at dksL_law_17 0 rfl rfl)
theorem dL_law_531 : decode cL_law 531 = .ok (.laload, 1) := dk_47 (dk_at dksL_law_17 1 rfl rfl)
theorem dL_law_532 : decode cL_law 532 = .ok (.iload 7, 2) := dk_21 7 (dk_at dksL_law_17 2 rfl rfl)
theorem dL_law_534 : decode cL_law 534 = .ok (.i2l, 1) := dk_133 (dk_at dksL_law_17 4 rfl rfl)
theorem dL_law_535 : decode cL_law 535 = .ok (.lcmp, 1) := dk_148 (dk_at dksL_law_17 5 rfl rfl)
theorem dL_law_536 : decode cL_law 536 = .ok (.ifCond .eq 5, 3) := dk_153 0 5 (dk_at dksL_law_17 6 rfl rfl)
theorem dL_law_539 : decode cL_law 539 = .ok (.iconst 0, 1) := dk_3 (dk_at dksL_law_17 9 rfl rfl)
theorem dL_law_540 : decode cL_law 540 = .ok (.ireturn, 1) := dk_172 (dk_at dksL_law_17 10 rfl rfl)
theorem dL_law_541 : decode cL_law 541 = .ok (.goto 1799, 3) := dk_167 7 7 (dk_at dksL_law_17 11 rfl rfl)
theorem dL_law_544 : decode cL_law 544 = .ok (.aload_n 1, 1) := dk_43 (dk_at dksL_law_17 14 rfl rfl)
theorem dL_law_545 : decode cL_law 545 = .ok (.aload_n 0, 1) := dk_42 (dk_at dksL_law_17 15 rfl rfl)
theorem dL_law_546 : decode cL_law 546 = .ok (.iload 5, 2) := dk_21 5 (dk_at dksL_law_17 16 rfl rfl)
theorem dL_law_548 : decode cL_law 548 = .ok (.iconst 1, 1) := dk_4 (dk_at dksL_law_17 18 rfl rfl)
theorem dL_law_549 : decode cL_law 549 = .ok (.iadd, 1) := dk_96 (dk_at dksL_law_17 19 rfl rfl)
theorem dL_law_550 : decode cL_law 550 = .ok (.iaload, 1) := dk_46 (dk_at dksL_law_17 20 rfl rfl)
theorem dL_law_551 : decode cL_law 551 = .ok (.aload_n 0, 1) := dk_42 (dk_at dksL_law_17 21 rfl rfl)
theorem dL_law_552 : decode cL_law 552 = .ok (.iload 5, 2) := dk_21 5 (dk_at dksL_law_17 22 rfl rfl)
theorem dL_law_554 : decode cL_law 554 = .ok (.iconst 2, 1) := dk_5 (dk_at dksL_law_18 0 rfl rfl)
theorem dL_law_555 : decode cL_law 555 = .ok (.iadd, 1) := dk_96 (dk_at dksL_law_18 1 rfl rfl)
theorem dL_law_556 : decode cL_law 556 = .ok (.iaload, 1) := dk_46 (dk_at dksL_law_18 2 rfl rfl)
theorem dL_law_557 : decode cL_law 557 = .ok (.aload_n 3, 1) := dk_45 (dk_at dksL_law_18 3 rfl rfl)
theorem dL_law_558 : decode cL_law 558 = .ok (.invokestatic 158, 3) := dk_184 0 158 (dk_at dksL_law_18 4 rfl rfl)
theorem dL_law_561 : decode cL_law 561 = .ok (.istore 6, 2) := dk_54 6 (dk_at dksL_law_18 7 rfl rfl)
theorem dL_law_563 : decode cL_law 563 = .ok (.aload_n 2, 1) := dk_44 (dk_at dksL_law_18 9 rfl rfl)
theorem dL_law_564 : decode cL_law 564 = .ok (.aload_n 0, 1) := dk_42 (dk_at dksL_law_18 10 rfl rfl)
theorem dL_law_565 : decode cL_law 565 = .ok (.iload 5, 2) := dk_21 5 (dk_at dksL_law_18 11 rfl rfl)
theorem dL_law_567 : decode cL_law 567 = .ok (.iconst 1, 1) := dk_4 (dk_at dksL_law_18 13 rfl rfl)
theorem dL_law_568 : decode cL_law 568 = .ok (.iadd, 1) := dk_96 (dk_at dksL_law_18 14 rfl rfl)
theorem dL_law_569 : decode cL_law 569 = .ok (.iaload, 1) := dk_46 (dk_at dksL_law_18 15 rfl rfl)
theorem dL_law_570 : decode cL_law 570 = .ok (.aload_n 0, 1) := dk_42 (dk_at dksL_law_18 16 rfl rfl)
theorem dL_law_571 : decode cL_law 571 = .ok (.iload 5, 2) := dk_21 5 (dk_at dksL_law_18 17 rfl rfl)
theorem dL_law_573 : decode cL_law 573 = .ok (.iconst 2, 1) := dk_5 (dk_at dksL_law_18 19 rfl rfl)
theorem dL_law_574 : decode cL_law 574 = .ok (.iadd, 1) := dk_96 (dk_at dksL_law_18 20 rfl rfl)
theorem dL_law_575 : decode cL_law 575 = .ok (.iaload, 1) := dk_46 (dk_at dksL_law_18 21 rfl rfl)
theorem dL_law_576 : decode cL_law 576 = .ok (.invokevirtual 160, 3) := dk_182 0 160 (dk_at dksL_law_19 0 rfl rfl)
theorem dL_law_579 : decode cL_law 579 = .ok (.istore 7, 2) := dk_54 7 (dk_at dksL_law_19 3 rfl rfl)
theorem dL_law_581 : decode cL_law 581 = .ok (.aload_n 2, 1) := dk_44 (dk_at dksL_law_19 5 rfl rfl)
theorem dL_law_582 : decode cL_law 582 = .ok (.invokevirtual 141, 3) := dk_182 0 141 (dk_at dksL_law_19 6 rfl rfl)
theorem dL_law_585 : decode cL_law 585 = .ok (.iload 6, 2) := dk_21 6 (dk_at dksL_law_19 9 rfl rfl)
theorem dL_law_587 : decode cL_law 587 = .ok (.if_icmp .eq 5, 3) := dk_159 0 5 (dk_at dksL_law_19 11 rfl rfl)
theorem dL_law_590 : decode cL_law 590 = .ok (.iconst 0, 1) := dk_3 (dk_at dksL_law_19 14 rfl rfl)
theorem dL_law_591 : decode cL_law 591 = .ok (.ireturn, 1) := dk_172 (dk_at dksL_law_19 15 rfl rfl)
theorem dL_law_592 : decode cL_law 592 = .ok (.iload 6, 2) := dk_21 6 (dk_at dksL_law_19 16 rfl rfl)
theorem dL_law_594 : decode cL_law 594 = .ok (.ifCond .ne 15, 3) := dk_154 0 15 (dk_at dksL_law_19 18 rfl rfl)
theorem dL_law_597 : decode cL_law 597 = .ok (.aload_n 3, 1) := dk_45 (dk_at dksL_law_19 21 rfl rfl)
theorem dL_law_598 : decode cL_law 598 = .ok (.iconst 0, 1) := dk_3 (dk_at dksL_law_19 22 rfl rfl)
theorem dL_law_599 : decode cL_law 599 = .ok (.laload, 1) := dk_47 (dk_at dksL_law_19 23 rfl rfl)
theorem dL_law_600 : decode cL_law 600 = .ok (.iload 7, 2) := dk_21 7 (dk_at dksL_law_20 0 rfl rfl)
theorem dL_law_602 : decode cL_law 602 = .ok (.i2l, 1) := dk_133 (dk_at dksL_law_20 2 rfl rfl)
theorem dL_law_603 : decode cL_law 603 = .ok (.lcmp, 1) := dk_148 (dk_at dksL_law_20 3 rfl rfl)
theorem dL_law_604 : decode cL_law 604 = .ok (.ifCond .eq 5, 3) := dk_153 0 5 (dk_at dksL_law_20 4 rfl rfl)
theorem dL_law_607 : decode cL_law 607 = .ok (.iconst 0, 1) := dk_3 (dk_at dksL_law_20 7 rfl rfl)
theorem dL_law_608 : decode cL_law 608 = .ok (.ireturn, 1) := dk_172 (dk_at dksL_law_20 8 rfl rfl)
theorem dL_law_609 : decode cL_law 609 = .ok (.goto 1731, 3) := dk_167 6 195 (dk_at dksL_law_20 9 rfl rfl)
theorem dL_law_612 : decode cL_law 612 = .ok (.aload_n 1, 1) := dk_43 (dk_at dksL_law_20 12 rfl rfl)
theorem dL_law_613 : decode cL_law 613 = .ok (.aload_n 0, 1) := dk_42 (dk_at dksL_law_20 13 rfl rfl)
theorem dL_law_614 : decode cL_law 614 = .ok (.iload 5, 2) := dk_21 5 (dk_at dksL_law_20 14 rfl rfl)
theorem dL_law_616 : decode cL_law 616 = .ok (.iconst 1, 1) := dk_4 (dk_at dksL_law_20 16 rfl rfl)
theorem dL_law_617 : decode cL_law 617 = .ok (.iadd, 1) := dk_96 (dk_at dksL_law_20 17 rfl rfl)
theorem dL_law_618 : decode cL_law 618 = .ok (.iaload, 1) := dk_46 (dk_at dksL_law_20 18 rfl rfl)
theorem dL_law_619 : decode cL_law 619 = .ok (.aload_n 0, 1) := dk_42 (dk_at dksL_law_20 19 rfl rfl)
theorem dL_law_620 : decode cL_law 620 = .ok (.iload 5, 2) := dk_21 5 (dk_at dksL_law_20 20 rfl rfl)
theorem dL_law_622 : decode cL_law 622 = .ok (.iconst 2, 1) := dk_5 (dk_at dksL_law_20 22 rfl rfl)
theorem dL_law_623 : decode cL_law 623 = .ok (.iadd, 1) := dk_96 (dk_at dksL_law_20 23 rfl rfl)
theorem dL_law_624 : decode cL_law 624 = .ok (.iaload, 1) := dk_46 (dk_at dksL_law_21 0 rfl rfl)
theorem dL_law_625 : decode cL_law 625 = .ok (.aload_n 3, 1) := dk_45 (dk_at dksL_law_21 1 rfl rfl)
theorem dL_law_626 : decode cL_law 626 = .ok (.invokestatic 161, 3) := dk_184 0 161 (dk_at dksL_law_21 2 rfl rfl)
theorem dL_law_629 : decode cL_law 629 = .ok (.istore 6, 2) := dk_54 6 (dk_at dksL_law_21 5 rfl rfl)
theorem dL_law_631 : decode cL_law 631 = .ok (.aload_n 2, 1) := dk_44 (dk_at dksL_law_21 7 rfl rfl)
theorem dL_law_632 : decode cL_law 632 = .ok (.aload_n 0, 1) := dk_42 (dk_at dksL_law_21 8 rfl rfl)
theorem dL_law_633 : decode cL_law 633 = .ok (.iload 5, 2) := dk_21 5 (dk_at dksL_law_21 9 rfl rfl)
theorem dL_law_635 : decode cL_law 635 = .ok (.iconst 1, 1) := dk_4 (dk_at dksL_law_21 11 rfl rfl)
theorem dL_law_636 : decode cL_law 636 = .ok (.iadd, 1) := dk_96 (dk_at dksL_law_21 12 rfl rfl)
theorem dL_law_637 : decode cL_law 637 = .ok (.iaload, 1) := dk_46 (dk_at dksL_law_21 13 rfl rfl)
theorem dL_law_638 : decode cL_law 638 = .ok (.aload_n 0, 1) := dk_42 (dk_at dksL_law_21 14 rfl rfl)
theorem dL_law_639 : decode cL_law 639 = .ok (.iload 5, 2) := dk_21 5 (dk_at dksL_law_21 15 rfl rfl)
theorem dL_law_641 : decode cL_law 641 = .ok (.iconst 2, 1) := dk_5 (dk_at dksL_law_21 17 rfl rfl)
theorem dL_law_642 : decode cL_law 642 = .ok (.iadd, 1) := dk_96 (dk_at dksL_law_21 18 rfl rfl)
theorem dL_law_643 : decode cL_law 643 = .ok (.iaload, 1) := dk_46 (dk_at dksL_law_21 19 rfl rfl)
theorem dL_law_644 : decode cL_law 644 = .ok (.invokevirtual 163, 3) := dk_182 0 163 (dk_at dksL_law_21 20 rfl rfl)
theorem dL_law_647 : decode cL_law 647 = .ok (.istore 7, 2) := dk_54 7 (dk_at dksL_law_22 0 rfl rfl)
theorem dL_law_649 : decode cL_law 649 = .ok (.aload_n 2, 1) := dk_44 (dk_at dksL_law_22 2 rfl rfl)
theorem dL_law_650 : decode cL_law 650 = .ok (.invokevirtual 141, 3) := dk_182 0 141 (dk_at dksL_law_22 3 rfl rfl)
theorem dL_law_653 : decode cL_law 653 = .ok (.iload 6, 2) := dk_21 6 (dk_at dksL_law_22 6 rfl rfl)
theorem dL_law_655 : decode cL_law 655 = .ok (.if_icmp .eq 5, 3) := dk_159 0 5 (dk_at dksL_law_22 8 rfl rfl)
theorem dL_law_658 : decode cL_law 658 = .ok (.iconst 0, 1) := dk_3 (dk_at dksL_law_22 11 rfl rfl)
theorem dL_law_659 : decode cL_law 659 = .ok (.ireturn, 1) := dk_172 (dk_at dksL_law_22 12 rfl rfl)
theorem dL_law_660 : decode cL_law 660 = .ok (.iload 6, 2) := dk_21 6 (dk_at dksL_law_22 13 rfl rfl)
theorem dL_law_662 : decode cL_law 662 = .ok (.ifCond .ne 22, 3) := dk_154 0 22 (dk_at dksL_law_22 15 rfl rfl)
theorem dL_law_665 : decode cL_law 665 = .ok (.aload_n 3, 1) := dk_45 (dk_at dksL_law_22 18 rfl rfl)
theorem dL_law_666 : decode cL_law 666 = .ok (.iconst 0, 1) := dk_3 (dk_at dksL_law_22 19 rfl rfl)
theorem dL_law_667 : decode cL_law 667 = .ok (.laload, 1) := dk_47 (dk_at dksL_law_22 20 rfl rfl)
theorem dL_law_668 : decode cL_law 668 = .ok (.iload 7, 2) := dk_21 7 (dk_at dksL_law_22 21 rfl rfl)
theorem dL_law_670 : decode cL_law 670 = .ok (.ifCond .eq 7, 3) := dk_153 0 7 (dk_at dksL_law_23 0 rfl rfl)
theorem dL_law_673 : decode cL_law 673 = .ok (.lconst 1, 1) := dk_10 (dk_at dksL_law_23 3 rfl rfl)
theorem dL_law_674 : decode cL_law 674 = .ok (.goto 4, 3) := dk_167 0 4 (dk_at dksL_law_23 4 rfl rfl)
theorem dL_law_677 : decode cL_law 677 = .ok (.lconst 0, 1) := dk_9 (dk_at dksL_law_23 7 rfl rfl)
theorem dL_law_678 : decode cL_law 678 = .ok (.lcmp, 1) := dk_148 (dk_at dksL_law_23 8 rfl rfl)
theorem dL_law_679 : decode cL_law 679 = .ok (.ifCond .eq 5, 3) := dk_153 0 5 (dk_at dksL_law_23 9 rfl rfl)
theorem dL_law_682 : decode cL_law 682 = .ok (.iconst 0, 1) := dk_3 (dk_at dksL_law_23 12 rfl rfl)
theorem dL_law_683 : decode cL_law 683 = .ok (.ireturn, 1) := dk_172 (dk_at dksL_law_23 13 rfl rfl)
theorem dL_law_684 : decode cL_law 684 = .ok (.goto 1656, 3) := dk_167 6 120 (dk_at dksL_law_23 14 rfl rfl)
theorem dL_law_687 : decode cL_law 687 = .ok (.aload_n 1, 1) := dk_43 (dk_at dksL_law_23 17 rfl rfl)
theorem dL_law_688 : decode cL_law 688 = .ok (.aload_n 0, 1) := dk_42 (dk_at dksL_law_23 18 rfl rfl)
theorem dL_law_689 : decode cL_law 689 = .ok (.iload 5, 2) := dk_21 5 (dk_at dksL_law_23 19 rfl rfl)
theorem dL_law_691 : decode cL_law 691 = .ok (.iconst 1, 1) := dk_4 (dk_at dksL_law_23 21 rfl rfl)
theorem dL_law_692 : decode cL_law 692 = .ok (.iadd, 1) := dk_96 (dk_at dksL_law_23 22 rfl rfl)
theorem dL_law_693 : decode cL_law 693 = .ok (.iaload, 1) := dk_46 (dk_at dksL_law_23 23 rfl rfl)
theorem dL_law_694 : decode cL_law 694 = .ok (.aload_n 0, 1) := dk_42 (dk_at dksL_law_24 0 rfl rfl)
theorem dL_law_695 : decode cL_law 695 = .ok (.iload 5, 2) := dk_21 5 (dk_at dksL_law_24 1 rfl rfl)
theorem dL_law_697 : decode cL_law 697 = .ok (.iconst 2, 1) := dk_5 (dk_at dksL_law_24 3 rfl rfl)
theorem dL_law_698 : decode cL_law 698 = .ok (.iadd, 1) := dk_96 (dk_at dksL_law_24 4 rfl rfl)
theorem dL_law_699 : decode cL_law 699 = .ok (.iaload, 1) := dk_46 (dk_at dksL_law_24 5 rfl rfl)
theorem dL_law_700 : decode cL_law 700 = .ok (.aload_n 3, 1) := dk_45 (dk_at dksL_law_24 6 rfl rfl)
theorem dL_law_701 : decode cL_law 701 = .ok (.invokestatic 164, 3) := dk_184 0 164 (dk_at dksL_law_24 7 rfl rfl)
theorem dL_law_704 : decode cL_law 704 = .ok (.istore 6, 2) := dk_54 6 (dk_at dksL_law_24 10 rfl rfl)
theorem dL_law_706 : decode cL_law 706 = .ok (.aload_n 2, 1) := dk_44 (dk_at dksL_law_24 12 rfl rfl)
theorem dL_law_707 : decode cL_law 707 = .ok (.aload_n 0, 1) := dk_42 (dk_at dksL_law_24 13 rfl rfl)
theorem dL_law_708 : decode cL_law 708 = .ok (.iload 5, 2) := dk_21 5 (dk_at dksL_law_24 14 rfl rfl)
theorem dL_law_710 : decode cL_law 710 = .ok (.iconst 1, 1) := dk_4 (dk_at dksL_law_24 16 rfl rfl)
theorem dL_law_711 : decode cL_law 711 = .ok (.iadd, 1) := dk_96 (dk_at dksL_law_24 17 rfl rfl)
theorem dL_law_712 : decode cL_law 712 = .ok (.iaload, 1) := dk_46 (dk_at dksL_law_24 18 rfl rfl)
theorem dL_law_713 : decode cL_law 713 = .ok (.aload_n 0, 1) := dk_42 (dk_at dksL_law_24 19 rfl rfl)
theorem dL_law_714 : decode cL_law 714 = .ok (.iload 5, 2) := dk_21 5 (dk_at dksL_law_24 20 rfl rfl)
theorem dL_law_716 : decode cL_law 716 = .ok (.iconst 2, 1) := dk_5 (dk_at dksL_law_24 22 rfl rfl)
theorem dL_law_717 : decode cL_law 717 = .ok (.iadd, 1) := dk_96 (dk_at dksL_law_24 23 rfl rfl)
theorem dL_law_718 : decode cL_law 718 = .ok (.iaload, 1) := dk_46 (dk_at dksL_law_25 0 rfl rfl)
theorem dL_law_719 : decode cL_law 719 = .ok (.invokevirtual 166, 3) := dk_182 0 166 (dk_at dksL_law_25 1 rfl rfl)
theorem dL_law_722 : decode cL_law 722 = .ok (.istore 7, 2) := dk_54 7 (dk_at dksL_law_25 4 rfl rfl)
theorem dL_law_724 : decode cL_law 724 = .ok (.aload_n 2, 1) := dk_44 (dk_at dksL_law_25 6 rfl rfl)
theorem dL_law_725 : decode cL_law 725 = .ok (.invokevirtual 141, 3) := dk_182 0 141 (dk_at dksL_law_25 7 rfl rfl)
theorem dL_law_728 : decode cL_law 728 = .ok (.iload 6, 2) := dk_21 6 (dk_at dksL_law_25 10 rfl rfl)
theorem dL_law_730 : decode cL_law 730 = .ok (.if_icmp .eq 5, 3) := dk_159 0 5 (dk_at dksL_law_25 12 rfl rfl)
theorem dL_law_733 : decode cL_law 733 = .ok (.iconst 0, 1) := dk_3 (dk_at dksL_law_25 15 rfl rfl)
theorem dL_law_734 : decode cL_law 734 = .ok (.ireturn, 1) := dk_172 (dk_at dksL_law_25 16 rfl rfl)
theorem dL_law_735 : decode cL_law 735 = .ok (.iload 6, 2) := dk_21 6 (dk_at dksL_law_25 17 rfl rfl)
theorem dL_law_737 : decode cL_law 737 = .ok (.ifCond .ne 15, 3) := dk_154 0 15 (dk_at dksL_law_25 19 rfl rfl)
theorem dL_law_740 : decode cL_law 740 = .ok (.aload_n 3, 1) := dk_45 (dk_at dksL_law_25 22 rfl rfl)
theorem dL_law_741 : decode cL_law 741 = .ok (.iconst 0, 1) := dk_3 (dk_at dksL_law_25 23 rfl rfl)
theorem dL_law_742 : decode cL_law 742 = .ok (.laload, 1) := dk_47 (dk_at dksL_law_26 0 rfl rfl)
theorem dL_law_743 : decode cL_law 743 = .ok (.iload 7, 2) := dk_21 7 (dk_at dksL_law_26 1 rfl rfl)
theorem dL_law_745 : decode cL_law 745 = .ok (.i2l, 1) := dk_133 (dk_at dksL_law_26 3 rfl rfl)
theorem dL_law_746 : decode cL_law 746 = .ok (.lcmp, 1) := dk_148 (dk_at dksL_law_26 4 rfl rfl)
theorem dL_law_747 : decode cL_law 747 = .ok (.ifCond .eq 5, 3) := dk_153 0 5 (dk_at dksL_law_26 5 rfl rfl)
theorem dL_law_750 : decode cL_law 750 = .ok (.iconst 0, 1) := dk_3 (dk_at dksL_law_26 8 rfl rfl)
theorem dL_law_751 : decode cL_law 751 = .ok (.ireturn, 1) := dk_172 (dk_at dksL_law_26 9 rfl rfl)
theorem dL_law_752 : decode cL_law 752 = .ok (.goto 1588, 3) := dk_167 6 52 (dk_at dksL_law_26 10 rfl rfl)
theorem dL_law_755 : decode cL_law 755 = .ok (.aload_n 1, 1) := dk_43 (dk_at dksL_law_26 13 rfl rfl)
theorem dL_law_756 : decode cL_law 756 = .ok (.aload_n 0, 1) := dk_42 (dk_at dksL_law_26 14 rfl rfl)
theorem dL_law_757 : decode cL_law 757 = .ok (.iload 5, 2) := dk_21 5 (dk_at dksL_law_26 15 rfl rfl)
theorem dL_law_759 : decode cL_law 759 = .ok (.iconst 1, 1) := dk_4 (dk_at dksL_law_26 17 rfl rfl)
theorem dL_law_760 : decode cL_law 760 = .ok (.iadd, 1) := dk_96 (dk_at dksL_law_26 18 rfl rfl)
theorem dL_law_761 : decode cL_law 761 = .ok (.iaload, 1) := dk_46 (dk_at dksL_law_26 19 rfl rfl)
theorem dL_law_762 : decode cL_law 762 = .ok (.i2c, 1) := dk_146 (dk_at dksL_law_26 20 rfl rfl)
theorem dL_law_763 : decode cL_law 763 = .ok (.aload_n 3, 1) := dk_45 (dk_at dksL_law_26 21 rfl rfl)
theorem dL_law_764 : decode cL_law 764 = .ok (.invokestatic 167, 3) := dk_184 0 167 (dk_at dksL_law_27 0 rfl rfl)
theorem dL_law_767 : decode cL_law 767 = .ok (.istore 6, 2) := dk_54 6 (dk_at dksL_law_27 3 rfl rfl)
theorem dL_law_769 : decode cL_law 769 = .ok (.aload_n 2, 1) := dk_44 (dk_at dksL_law_27 5 rfl rfl)
theorem dL_law_770 : decode cL_law 770 = .ok (.aload_n 0, 1) := dk_42 (dk_at dksL_law_27 6 rfl rfl)
theorem dL_law_771 : decode cL_law 771 = .ok (.iload 5, 2) := dk_21 5 (dk_at dksL_law_27 7 rfl rfl)
theorem dL_law_773 : decode cL_law 773 = .ok (.iconst 1, 1) := dk_4 (dk_at dksL_law_27 9 rfl rfl)
theorem dL_law_774 : decode cL_law 774 = .ok (.iadd, 1) := dk_96 (dk_at dksL_law_27 10 rfl rfl)
theorem dL_law_775 : decode cL_law 775 = .ok (.iaload, 1) := dk_46 (dk_at dksL_law_27 11 rfl rfl)
theorem dL_law_776 : decode cL_law 776 = .ok (.i2c, 1) := dk_146 (dk_at dksL_law_27 12 rfl rfl)
theorem dL_law_777 : decode cL_law 777 = .ok (.invokevirtual 170, 3) := dk_182 0 170 (dk_at dksL_law_27 13 rfl rfl)
theorem dL_law_780 : decode cL_law 780 = .ok (.istore 7, 2) := dk_54 7 (dk_at dksL_law_27 16 rfl rfl)
theorem dL_law_782 : decode cL_law 782 = .ok (.aload_n 2, 1) := dk_44 (dk_at dksL_law_27 18 rfl rfl)
theorem dL_law_783 : decode cL_law 783 = .ok (.invokevirtual 141, 3) := dk_182 0 141 (dk_at dksL_law_27 19 rfl rfl)
theorem dL_law_786 : decode cL_law 786 = .ok (.iload 6, 2) := dk_21 6 (dk_at dksL_law_27 22 rfl rfl)
theorem dL_law_788 : decode cL_law 788 = .ok (.if_icmp .eq 5, 3) := dk_159 0 5 (dk_at dksL_law_28 0 rfl rfl)
theorem dL_law_791 : decode cL_law 791 = .ok (.iconst 0, 1) := dk_3 (dk_at dksL_law_28 3 rfl rfl)
theorem dL_law_792 : decode cL_law 792 = .ok (.ireturn, 1) := dk_172 (dk_at dksL_law_28 4 rfl rfl)
theorem dL_law_793 : decode cL_law 793 = .ok (.iload 6, 2) := dk_21 6 (dk_at dksL_law_28 5 rfl rfl)
theorem dL_law_795 : decode cL_law 795 = .ok (.ifCond .ne 15, 3) := dk_154 0 15 (dk_at dksL_law_28 7 rfl rfl)
theorem dL_law_798 : decode cL_law 798 = .ok (.aload_n 3, 1) := dk_45 (dk_at dksL_law_28 10 rfl rfl)
theorem dL_law_799 : decode cL_law 799 = .ok (.iconst 0, 1) := dk_3 (dk_at dksL_law_28 11 rfl rfl)
theorem dL_law_800 : decode cL_law 800 = .ok (.laload, 1) := dk_47 (dk_at dksL_law_28 12 rfl rfl)
theorem dL_law_801 : decode cL_law 801 = .ok (.iload 7, 2) := dk_21 7 (dk_at dksL_law_28 13 rfl rfl)
theorem dL_law_803 : decode cL_law 803 = .ok (.i2l, 1) := dk_133 (dk_at dksL_law_28 15 rfl rfl)
theorem dL_law_804 : decode cL_law 804 = .ok (.lcmp, 1) := dk_148 (dk_at dksL_law_28 16 rfl rfl)
theorem dL_law_805 : decode cL_law 805 = .ok (.ifCond .eq 5, 3) := dk_153 0 5 (dk_at dksL_law_28 17 rfl rfl)
theorem dL_law_808 : decode cL_law 808 = .ok (.iconst 0, 1) := dk_3 (dk_at dksL_law_28 20 rfl rfl)
theorem dL_law_809 : decode cL_law 809 = .ok (.ireturn, 1) := dk_172 (dk_at dksL_law_28 21 rfl rfl)
theorem dL_law_810 : decode cL_law 810 = .ok (.goto 1530, 3) := dk_167 5 250 (dk_at dksL_law_29 0 rfl rfl)
theorem dL_law_813 : decode cL_law 813 = .ok (.aload_n 1, 1) := dk_43 (dk_at dksL_law_29 3 rfl rfl)
theorem dL_law_814 : decode cL_law 814 = .ok (.aload_n 0, 1) := dk_42 (dk_at dksL_law_29 4 rfl rfl)
theorem dL_law_815 : decode cL_law 815 = .ok (.iload 5, 2) := dk_21 5 (dk_at dksL_law_29 5 rfl rfl)
theorem dL_law_817 : decode cL_law 817 = .ok (.iconst 1, 1) := dk_4 (dk_at dksL_law_29 7 rfl rfl)
theorem dL_law_818 : decode cL_law 818 = .ok (.iadd, 1) := dk_96 (dk_at dksL_law_29 8 rfl rfl)
theorem dL_law_819 : decode cL_law 819 = .ok (.iaload, 1) := dk_46 (dk_at dksL_law_29 9 rfl rfl)
theorem dL_law_820 : decode cL_law 820 = .ok (.aload_n 3, 1) := dk_45 (dk_at dksL_law_29 10 rfl rfl)
theorem dL_law_821 : decode cL_law 821 = .ok (.invokestatic 171, 3) := dk_184 0 171 (dk_at dksL_law_29 11 rfl rfl)
theorem dL_law_824 : decode cL_law 824 = .ok (.istore 6, 2) := dk_54 6 (dk_at dksL_law_29 14 rfl rfl)
theorem dL_law_826 : decode cL_law 826 = .ok (.aload_n 2, 1) := dk_44 (dk_at dksL_law_29 16 rfl rfl)
theorem dL_law_827 : decode cL_law 827 = .ok (.aload_n 0, 1) := dk_42 (dk_at dksL_law_29 17 rfl rfl)
theorem dL_law_828 : decode cL_law 828 = .ok (.iload 5, 2) := dk_21 5 (dk_at dksL_law_29 18 rfl rfl)
theorem dL_law_830 : decode cL_law 830 = .ok (.iconst 1, 1) := dk_4 (dk_at dksL_law_29 20 rfl rfl)
theorem dL_law_831 : decode cL_law 831 = .ok (.iadd, 1) := dk_96 (dk_at dksL_law_29 21 rfl rfl)
theorem dL_law_832 : decode cL_law 832 = .ok (.iaload, 1) := dk_46 (dk_at dksL_law_29 22 rfl rfl)
theorem dL_law_833 : decode cL_law 833 = .ok (.invokevirtual 173, 3) := dk_182 0 173 (dk_at dksL_law_30 0 rfl rfl)
theorem dL_law_836 : decode cL_law 836 = .ok (.istore 7, 2) := dk_54 7 (dk_at dksL_law_30 3 rfl rfl)
theorem dL_law_838 : decode cL_law 838 = .ok (.aload_n 2, 1) := dk_44 (dk_at dksL_law_30 5 rfl rfl)
theorem dL_law_839 : decode cL_law 839 = .ok (.invokevirtual 141, 3) := dk_182 0 141 (dk_at dksL_law_30 6 rfl rfl)
theorem dL_law_842 : decode cL_law 842 = .ok (.iload 6, 2) := dk_21 6 (dk_at dksL_law_30 9 rfl rfl)
theorem dL_law_844 : decode cL_law 844 = .ok (.if_icmp .eq 5, 3) := dk_159 0 5 (dk_at dksL_law_30 11 rfl rfl)
theorem dL_law_847 : decode cL_law 847 = .ok (.iconst 0, 1) := dk_3 (dk_at dksL_law_30 14 rfl rfl)
theorem dL_law_848 : decode cL_law 848 = .ok (.ireturn, 1) := dk_172 (dk_at dksL_law_30 15 rfl rfl)
theorem dL_law_849 : decode cL_law 849 = .ok (.iload 6, 2) := dk_21 6 (dk_at dksL_law_30 16 rfl rfl)
theorem dL_law_851 : decode cL_law 851 = .ok (.ifCond .ne 15, 3) := dk_154 0 15 (dk_at dksL_law_30 18 rfl rfl)
theorem dL_law_854 : decode cL_law 854 = .ok (.aload_n 3, 1) := dk_45 (dk_at dksL_law_30 21 rfl rfl)
theorem dL_law_855 : decode cL_law 855 = .ok (.iconst 0, 1) := dk_3 (dk_at dksL_law_30 22 rfl rfl)
theorem dL_law_856 : decode cL_law 856 = .ok (.laload, 1) := dk_47 (dk_at dksL_law_30 23 rfl rfl)
theorem dL_law_857 : decode cL_law 857 = .ok (.iload 7, 2) := dk_21 7 (dk_at dksL_law_31 0 rfl rfl)
theorem dL_law_859 : decode cL_law 859 = .ok (.i2l, 1) := dk_133 (dk_at dksL_law_31 2 rfl rfl)
theorem dL_law_860 : decode cL_law 860 = .ok (.lcmp, 1) := dk_148 (dk_at dksL_law_31 3 rfl rfl)
theorem dL_law_861 : decode cL_law 861 = .ok (.ifCond .eq 5, 3) := dk_153 0 5 (dk_at dksL_law_31 4 rfl rfl)
theorem dL_law_864 : decode cL_law 864 = .ok (.iconst 0, 1) := dk_3 (dk_at dksL_law_31 7 rfl rfl)
theorem dL_law_865 : decode cL_law 865 = .ok (.ireturn, 1) := dk_172 (dk_at dksL_law_31 8 rfl rfl)
theorem dL_law_866 : decode cL_law 866 = .ok (.goto 1474, 3) := dk_167 5 194 (dk_at dksL_law_31 9 rfl rfl)
theorem dL_law_869 : decode cL_law 869 = .ok (.aload_n 1, 1) := dk_43 (dk_at dksL_law_31 12 rfl rfl)
theorem dL_law_870 : decode cL_law 870 = .ok (.aload_n 0, 1) := dk_42 (dk_at dksL_law_31 13 rfl rfl)
theorem dL_law_871 : decode cL_law 871 = .ok (.iload 5, 2) := dk_21 5 (dk_at dksL_law_31 14 rfl rfl)
theorem dL_law_873 : decode cL_law 873 = .ok (.iconst 1, 1) := dk_4 (dk_at dksL_law_31 16 rfl rfl)
theorem dL_law_874 : decode cL_law 874 = .ok (.iadd, 1) := dk_96 (dk_at dksL_law_31 17 rfl rfl)
theorem dL_law_875 : decode cL_law 875 = .ok (.iaload, 1) := dk_46 (dk_at dksL_law_31 18 rfl rfl)
theorem dL_law_876 : decode cL_law 876 = .ok (.aload_n 3, 1) := dk_45 (dk_at dksL_law_31 19 rfl rfl)
theorem dL_law_877 : decode cL_law 877 = .ok (.invokestatic 174, 3) := dk_184 0 174 (dk_at dksL_law_31 20 rfl rfl)
theorem dL_law_880 : decode cL_law 880 = .ok (.istore 6, 2) := dk_54 6 (dk_at dksL_law_32 0 rfl rfl)
theorem dL_law_882 : decode cL_law 882 = .ok (.aload_n 2, 1) := dk_44 (dk_at dksL_law_32 2 rfl rfl)
theorem dL_law_883 : decode cL_law 883 = .ok (.aload_n 0, 1) := dk_42 (dk_at dksL_law_32 3 rfl rfl)
theorem dL_law_884 : decode cL_law 884 = .ok (.iload 5, 2) := dk_21 5 (dk_at dksL_law_32 4 rfl rfl)
theorem dL_law_886 : decode cL_law 886 = .ok (.iconst 1, 1) := dk_4 (dk_at dksL_law_32 6 rfl rfl)
theorem dL_law_887 : decode cL_law 887 = .ok (.iadd, 1) := dk_96 (dk_at dksL_law_32 7 rfl rfl)
theorem dL_law_888 : decode cL_law 888 = .ok (.iaload, 1) := dk_46 (dk_at dksL_law_32 8 rfl rfl)
theorem dL_law_889 : decode cL_law 889 = .ok (.invokevirtual 176, 3) := dk_182 0 176 (dk_at dksL_law_32 9 rfl rfl)
theorem dL_law_892 : decode cL_law 892 = .ok (.istore 7, 2) := dk_54 7 (dk_at dksL_law_32 12 rfl rfl)
theorem dL_law_894 : decode cL_law 894 = .ok (.aload_n 2, 1) := dk_44 (dk_at dksL_law_32 14 rfl rfl)
theorem dL_law_895 : decode cL_law 895 = .ok (.invokevirtual 141, 3) := dk_182 0 141 (dk_at dksL_law_32 15 rfl rfl)
theorem dL_law_898 : decode cL_law 898 = .ok (.iload 6, 2) := dk_21 6 (dk_at dksL_law_32 18 rfl rfl)
theorem dL_law_900 : decode cL_law 900 = .ok (.if_icmp .eq 5, 3) := dk_159 0 5 (dk_at dksL_law_32 20 rfl rfl)
theorem dL_law_903 : decode cL_law 903 = .ok (.iconst 0, 1) := dk_3 (dk_at dksL_law_32 23 rfl rfl)
theorem dL_law_904 : decode cL_law 904 = .ok (.ireturn, 1) := dk_172 (dk_at dksL_law_33 0 rfl rfl)
theorem dL_law_905 : decode cL_law 905 = .ok (.iload 6, 2) := dk_21 6 (dk_at dksL_law_33 1 rfl rfl)
theorem dL_law_907 : decode cL_law 907 = .ok (.ifCond .ne 15, 3) := dk_154 0 15 (dk_at dksL_law_33 3 rfl rfl)
theorem dL_law_910 : decode cL_law 910 = .ok (.aload_n 3, 1) := dk_45 (dk_at dksL_law_33 6 rfl rfl)
theorem dL_law_911 : decode cL_law 911 = .ok (.iconst 0, 1) := dk_3 (dk_at dksL_law_33 7 rfl rfl)
theorem dL_law_912 : decode cL_law 912 = .ok (.laload, 1) := dk_47 (dk_at dksL_law_33 8 rfl rfl)
theorem dL_law_913 : decode cL_law 913 = .ok (.iload 7, 2) := dk_21 7 (dk_at dksL_law_33 9 rfl rfl)
theorem dL_law_915 : decode cL_law 915 = .ok (.i2l, 1) := dk_133 (dk_at dksL_law_33 11 rfl rfl)
theorem dL_law_916 : decode cL_law 916 = .ok (.lcmp, 1) := dk_148 (dk_at dksL_law_33 12 rfl rfl)
theorem dL_law_917 : decode cL_law 917 = .ok (.ifCond .eq 5, 3) := dk_153 0 5 (dk_at dksL_law_33 13 rfl rfl)
theorem dL_law_920 : decode cL_law 920 = .ok (.iconst 0, 1) := dk_3 (dk_at dksL_law_33 16 rfl rfl)
theorem dL_law_921 : decode cL_law 921 = .ok (.ireturn, 1) := dk_172 (dk_at dksL_law_33 17 rfl rfl)
theorem dL_law_922 : decode cL_law 922 = .ok (.goto 1418, 3) := dk_167 5 138 (dk_at dksL_law_33 18 rfl rfl)
theorem dL_law_925 : decode cL_law 925 = .ok (.aload_n 1, 1) := dk_43 (dk_at dksL_law_33 21 rfl rfl)
theorem dL_law_926 : decode cL_law 926 = .ok (.aload_n 0, 1) := dk_42 (dk_at dksL_law_33 22 rfl rfl)
theorem dL_law_927 : decode cL_law 927 = .ok (.iload 5, 2) := dk_21 5 (dk_at dksL_law_34 0 rfl rfl)
theorem dL_law_929 : decode cL_law 929 = .ok (.iconst 1, 1) := dk_4 (dk_at dksL_law_34 2 rfl rfl)
theorem dL_law_930 : decode cL_law 930 = .ok (.iadd, 1) := dk_96 (dk_at dksL_law_34 3 rfl rfl)
theorem dL_law_931 : decode cL_law 931 = .ok (.iaload, 1) := dk_46 (dk_at dksL_law_34 4 rfl rfl)
theorem dL_law_932 : decode cL_law 932 = .ok (.aload_n 0, 1) := dk_42 (dk_at dksL_law_34 5 rfl rfl)
theorem dL_law_933 : decode cL_law 933 = .ok (.iload 5, 2) := dk_21 5 (dk_at dksL_law_34 6 rfl rfl)
theorem dL_law_935 : decode cL_law 935 = .ok (.iconst 2, 1) := dk_5 (dk_at dksL_law_34 8 rfl rfl)
theorem dL_law_936 : decode cL_law 936 = .ok (.iadd, 1) := dk_96 (dk_at dksL_law_34 9 rfl rfl)
theorem dL_law_937 : decode cL_law 937 = .ok (.iaload, 1) := dk_46 (dk_at dksL_law_34 10 rfl rfl)
theorem dL_law_938 : decode cL_law 938 = .ok (.aload_n 3, 1) := dk_45 (dk_at dksL_law_34 11 rfl rfl)
theorem dL_law_939 : decode cL_law 939 = .ok (.invokestatic 177, 3) := dk_184 0 177 (dk_at dksL_law_34 12 rfl rfl)
theorem dL_law_942 : decode cL_law 942 = .ok (.istore 6, 2) := dk_54 6 (dk_at dksL_law_34 15 rfl rfl)
theorem dL_law_944 : decode cL_law 944 = .ok (.aload_n 2, 1) := dk_44 (dk_at dksL_law_34 17 rfl rfl)
theorem dL_law_945 : decode cL_law 945 = .ok (.aload_n 0, 1) := dk_42 (dk_at dksL_law_34 18 rfl rfl)
theorem dL_law_946 : decode cL_law 946 = .ok (.iload 5, 2) := dk_21 5 (dk_at dksL_law_34 19 rfl rfl)
theorem dL_law_948 : decode cL_law 948 = .ok (.iconst 1, 1) := dk_4 (dk_at dksL_law_34 21 rfl rfl)
theorem dL_law_949 : decode cL_law 949 = .ok (.iadd, 1) := dk_96 (dk_at dksL_law_34 22 rfl rfl)
theorem dL_law_950 : decode cL_law 950 = .ok (.iaload, 1) := dk_46 (dk_at dksL_law_34 23 rfl rfl)
theorem dL_law_951 : decode cL_law 951 = .ok (.aload_n 0, 1) := dk_42 (dk_at dksL_law_35 0 rfl rfl)
theorem dL_law_952 : decode cL_law 952 = .ok (.iload 5, 2) := dk_21 5 (dk_at dksL_law_35 1 rfl rfl)
theorem dL_law_954 : decode cL_law 954 = .ok (.iconst 2, 1) := dk_5 (dk_at dksL_law_35 3 rfl rfl)
theorem dL_law_955 : decode cL_law 955 = .ok (.iadd, 1) := dk_96 (dk_at dksL_law_35 4 rfl rfl)
theorem dL_law_956 : decode cL_law 956 = .ok (.iaload, 1) := dk_46 (dk_at dksL_law_35 5 rfl rfl)
theorem dL_law_957 : decode cL_law 957 = .ok (.invokevirtual 179, 3) := dk_182 0 179 (dk_at dksL_law_35 6 rfl rfl)
theorem dL_law_960 : decode cL_law 960 = .ok (.istore 7, 2) := dk_54 7 (dk_at dksL_law_35 9 rfl rfl)
theorem dL_law_962 : decode cL_law 962 = .ok (.aload_n 2, 1) := dk_44 (dk_at dksL_law_35 11 rfl rfl)
theorem dL_law_963 : decode cL_law 963 = .ok (.invokevirtual 141, 3) := dk_182 0 141 (dk_at dksL_law_35 12 rfl rfl)
theorem dL_law_966 : decode cL_law 966 = .ok (.iload 6, 2) := dk_21 6 (dk_at dksL_law_35 15 rfl rfl)
theorem dL_law_968 : decode cL_law 968 = .ok (.if_icmp .eq 5, 3) := dk_159 0 5 (dk_at dksL_law_35 17 rfl rfl)
theorem dL_law_971 : decode cL_law 971 = .ok (.iconst 0, 1) := dk_3 (dk_at dksL_law_35 20 rfl rfl)
theorem dL_law_972 : decode cL_law 972 = .ok (.ireturn, 1) := dk_172 (dk_at dksL_law_35 21 rfl rfl)
theorem dL_law_973 : decode cL_law 973 = .ok (.iload 6, 2) := dk_21 6 (dk_at dksL_law_35 22 rfl rfl)
theorem dL_law_975 : decode cL_law 975 = .ok (.ifCond .ne 15, 3) := dk_154 0 15 (dk_at dksL_law_36 0 rfl rfl)
theorem dL_law_978 : decode cL_law 978 = .ok (.aload_n 3, 1) := dk_45 (dk_at dksL_law_36 3 rfl rfl)
theorem dL_law_979 : decode cL_law 979 = .ok (.iconst 0, 1) := dk_3 (dk_at dksL_law_36 4 rfl rfl)
theorem dL_law_980 : decode cL_law 980 = .ok (.laload, 1) := dk_47 (dk_at dksL_law_36 5 rfl rfl)
theorem dL_law_981 : decode cL_law 981 = .ok (.iload 7, 2) := dk_21 7 (dk_at dksL_law_36 6 rfl rfl)
theorem dL_law_983 : decode cL_law 983 = .ok (.i2l, 1) := dk_133 (dk_at dksL_law_36 8 rfl rfl)
theorem dL_law_984 : decode cL_law 984 = .ok (.lcmp, 1) := dk_148 (dk_at dksL_law_36 9 rfl rfl)
theorem dL_law_985 : decode cL_law 985 = .ok (.ifCond .eq 5, 3) := dk_153 0 5 (dk_at dksL_law_36 10 rfl rfl)
theorem dL_law_988 : decode cL_law 988 = .ok (.iconst 0, 1) := dk_3 (dk_at dksL_law_36 13 rfl rfl)
theorem dL_law_989 : decode cL_law 989 = .ok (.ireturn, 1) := dk_172 (dk_at dksL_law_36 14 rfl rfl)
theorem dL_law_990 : decode cL_law 990 = .ok (.goto 1350, 3) := dk_167 5 70 (dk_at dksL_law_36 15 rfl rfl)
theorem dL_law_993 : decode cL_law 993 = .ok (.aload_n 1, 1) := dk_43 (dk_at dksL_law_36 18 rfl rfl)
theorem dL_law_994 : decode cL_law 994 = .ok (.aload_n 0, 1) := dk_42 (dk_at dksL_law_36 19 rfl rfl)
theorem dL_law_995 : decode cL_law 995 = .ok (.iload 5, 2) := dk_21 5 (dk_at dksL_law_36 20 rfl rfl)
theorem dL_law_997 : decode cL_law 997 = .ok (.iconst 1, 1) := dk_4 (dk_at dksL_law_36 22 rfl rfl)
theorem dL_law_998 : decode cL_law 998 = .ok (.iadd, 1) := dk_96 (dk_at dksL_law_36 23 rfl rfl)
theorem dL_law_999 : decode cL_law 999 = .ok (.iaload, 1) := dk_46 (dk_at dksL_law_37 0 rfl rfl)
theorem dL_law_1000 : decode cL_law 1000 = .ok (.aload_n 3, 1) := dk_45 (dk_at dksL_law_37 1 rfl rfl)
theorem dL_law_1001 : decode cL_law 1001 = .ok (.invokestatic 180, 3) := dk_184 0 180 (dk_at dksL_law_37 2 rfl rfl)
theorem dL_law_1004 : decode cL_law 1004 = .ok (.istore 6, 2) := dk_54 6 (dk_at dksL_law_37 5 rfl rfl)
theorem dL_law_1006 : decode cL_law 1006 = .ok (.aload_n 2, 1) := dk_44 (dk_at dksL_law_37 7 rfl rfl)
theorem dL_law_1007 : decode cL_law 1007 = .ok (.aload_n 0, 1) := dk_42 (dk_at dksL_law_37 8 rfl rfl)
theorem dL_law_1008 : decode cL_law 1008 = .ok (.iload 5, 2) := dk_21 5 (dk_at dksL_law_37 9 rfl rfl)
theorem dL_law_1010 : decode cL_law 1010 = .ok (.iconst 1, 1) := dk_4 (dk_at dksL_law_37 11 rfl rfl)
theorem dL_law_1011 : decode cL_law 1011 = .ok (.iadd, 1) := dk_96 (dk_at dksL_law_37 12 rfl rfl)
theorem dL_law_1012 : decode cL_law 1012 = .ok (.iaload, 1) := dk_46 (dk_at dksL_law_37 13 rfl rfl)
theorem dL_law_1013 : decode cL_law 1013 = .ok (.invokevirtual 182, 3) := dk_182 0 182 (dk_at dksL_law_37 14 rfl rfl)
theorem dL_law_1016 : decode cL_law 1016 = .ok (.istore 7, 2) := dk_54 7 (dk_at dksL_law_37 17 rfl rfl)
theorem dL_law_1018 : decode cL_law 1018 = .ok (.aload_n 2, 1) := dk_44 (dk_at dksL_law_37 19 rfl rfl)
theorem dL_law_1019 : decode cL_law 1019 = .ok (.invokevirtual 141, 3) := dk_182 0 141 (dk_at dksL_law_37 20 rfl rfl)
theorem dL_law_1022 : decode cL_law 1022 = .ok (.iload 6, 2) := dk_21 6 (dk_at dksL_law_38 0 rfl rfl)
theorem dL_law_1024 : decode cL_law 1024 = .ok (.if_icmp .eq 5, 3) := dk_159 0 5 (dk_at dksL_law_38 2 rfl rfl)
theorem dL_law_1027 : decode cL_law 1027 = .ok (.iconst 0, 1) := dk_3 (dk_at dksL_law_38 5 rfl rfl)
theorem dL_law_1028 : decode cL_law 1028 = .ok (.ireturn, 1) := dk_172 (dk_at dksL_law_38 6 rfl rfl)
theorem dL_law_1029 : decode cL_law 1029 = .ok (.iload 6, 2) := dk_21 6 (dk_at dksL_law_38 7 rfl rfl)
theorem dL_law_1031 : decode cL_law 1031 = .ok (.ifCond .ne 15, 3) := dk_154 0 15 (dk_at dksL_law_38 9 rfl rfl)
theorem dL_law_1034 : decode cL_law 1034 = .ok (.aload_n 3, 1) := dk_45 (dk_at dksL_law_38 12 rfl rfl)
theorem dL_law_1035 : decode cL_law 1035 = .ok (.iconst 0, 1) := dk_3 (dk_at dksL_law_38 13 rfl rfl)
theorem dL_law_1036 : decode cL_law 1036 = .ok (.laload, 1) := dk_47 (dk_at dksL_law_38 14 rfl rfl)
theorem dL_law_1037 : decode cL_law 1037 = .ok (.iload 7, 2) := dk_21 7 (dk_at dksL_law_38 15 rfl rfl)
theorem dL_law_1039 : decode cL_law 1039 = .ok (.i2l, 1) := dk_133 (dk_at dksL_law_38 17 rfl rfl)
theorem dL_law_1040 : decode cL_law 1040 = .ok (.lcmp, 1) := dk_148 (dk_at dksL_law_38 18 rfl rfl)
theorem dL_law_1041 : decode cL_law 1041 = .ok (.ifCond .eq 5, 3) := dk_153 0 5 (dk_at dksL_law_38 19 rfl rfl)
theorem dL_law_1044 : decode cL_law 1044 = .ok (.iconst 0, 1) := dk_3 (dk_at dksL_law_38 22 rfl rfl)
theorem dL_law_1045 : decode cL_law 1045 = .ok (.ireturn, 1) := dk_172 (dk_at dksL_law_38 23 rfl rfl)
theorem dL_law_1046 : decode cL_law 1046 = .ok (.goto 1294, 3) := dk_167 5 14 (dk_at dksL_law_39 0 rfl rfl)
theorem dL_law_1049 : decode cL_law 1049 = .ok (.aload_n 1, 1) := dk_43 (dk_at dksL_law_39 3 rfl rfl)
theorem dL_law_1050 : decode cL_law 1050 = .ok (.aload_n 3, 1) := dk_45 (dk_at dksL_law_39 4 rfl rfl)
theorem dL_law_1051 : decode cL_law 1051 = .ok (.invokestatic 183, 3) := dk_184 0 183 (dk_at dksL_law_39 5 rfl rfl)
theorem dL_law_1054 : decode cL_law 1054 = .ok (.istore 6, 2) := dk_54 6 (dk_at dksL_law_39 8 rfl rfl)
theorem dL_law_1056 : decode cL_law 1056 = .ok (.aload_n 2, 1) := dk_44 (dk_at dksL_law_39 10 rfl rfl)
theorem dL_law_1057 : decode cL_law 1057 = .ok (.invokevirtual 186, 3) := dk_182 0 186 (dk_at dksL_law_39 11 rfl rfl)
theorem dL_law_1060 : decode cL_law 1060 = .ok (.istore 7, 2) := dk_54 7 (dk_at dksL_law_39 14 rfl rfl)
theorem dL_law_1062 : decode cL_law 1062 = .ok (.aload_n 2, 1) := dk_44 (dk_at dksL_law_39 16 rfl rfl)
theorem dL_law_1063 : decode cL_law 1063 = .ok (.invokevirtual 141, 3) := dk_182 0 141 (dk_at dksL_law_39 17 rfl rfl)
theorem dL_law_1066 : decode cL_law 1066 = .ok (.iload 6, 2) := dk_21 6 (dk_at dksL_law_39 20 rfl rfl)
theorem dL_law_1068 : decode cL_law 1068 = .ok (.if_icmp .eq 5, 3) := dk_159 0 5 (dk_at dksL_law_40 0 rfl rfl)
theorem dL_law_1071 : decode cL_law 1071 = .ok (.iconst 0, 1) := dk_3 (dk_at dksL_law_40 3 rfl rfl)
theorem dL_law_1072 : decode cL_law 1072 = .ok (.ireturn, 1) := dk_172 (dk_at dksL_law_40 4 rfl rfl)
theorem dL_law_1073 : decode cL_law 1073 = .ok (.iload 6, 2) := dk_21 6 (dk_at dksL_law_40 5 rfl rfl)
theorem dL_law_1075 : decode cL_law 1075 = .ok (.ifCond .ne 15, 3) := dk_154 0 15 (dk_at dksL_law_40 7 rfl rfl)
theorem dL_law_1078 : decode cL_law 1078 = .ok (.aload_n 3, 1) := dk_45 (dk_at dksL_law_40 10 rfl rfl)
theorem dL_law_1079 : decode cL_law 1079 = .ok (.iconst 0, 1) := dk_3 (dk_at dksL_law_40 11 rfl rfl)
theorem dL_law_1080 : decode cL_law 1080 = .ok (.laload, 1) := dk_47 (dk_at dksL_law_40 12 rfl rfl)
theorem dL_law_1081 : decode cL_law 1081 = .ok (.iload 7, 2) := dk_21 7 (dk_at dksL_law_40 13 rfl rfl)
theorem dL_law_1083 : decode cL_law 1083 = .ok (.i2l, 1) := dk_133 (dk_at dksL_law_40 15 rfl rfl)
theorem dL_law_1084 : decode cL_law 1084 = .ok (.lcmp, 1) := dk_148 (dk_at dksL_law_40 16 rfl rfl)
theorem dL_law_1085 : decode cL_law 1085 = .ok (.ifCond .eq 5, 3) := dk_153 0 5 (dk_at dksL_law_40 17 rfl rfl)
theorem dL_law_1088 : decode cL_law 1088 = .ok (.iconst 0, 1) := dk_3 (dk_at dksL_law_40 20 rfl rfl)
theorem dL_law_1089 : decode cL_law 1089 = .ok (.ireturn, 1) := dk_172 (dk_at dksL_law_40 21 rfl rfl)
theorem dL_law_1090 : decode cL_law 1090 = .ok (.goto 1250, 3) := dk_167 4 226 (dk_at dksL_law_41 0 rfl rfl)
theorem dL_law_1093 : decode cL_law 1093 = .ok (.aload_n 1, 1) := dk_43 (dk_at dksL_law_41 3 rfl rfl)
theorem dL_law_1094 : decode cL_law 1094 = .ok (.aload_n 3, 1) := dk_45 (dk_at dksL_law_41 4 rfl rfl)
theorem dL_law_1095 : decode cL_law 1095 = .ok (.invokestatic 187, 3) := dk_184 0 187 (dk_at dksL_law_41 5 rfl rfl)
theorem dL_law_1098 : decode cL_law 1098 = .ok (.istore 6, 2) := dk_54 6 (dk_at dksL_law_41 8 rfl rfl)
theorem dL_law_1100 : decode cL_law 1100 = .ok (.aload_n 2, 1) := dk_44 (dk_at dksL_law_41 10 rfl rfl)
theorem dL_law_1101 : decode cL_law 1101 = .ok (.invokevirtual 189, 3) := dk_182 0 189 (dk_at dksL_law_41 11 rfl rfl)
theorem dL_law_1104 : decode cL_law 1104 = .ok (.istore 7, 2) := dk_54 7 (dk_at dksL_law_41 14 rfl rfl)
theorem dL_law_1106 : decode cL_law 1106 = .ok (.aload_n 2, 1) := dk_44 (dk_at dksL_law_41 16 rfl rfl)
theorem dL_law_1107 : decode cL_law 1107 = .ok (.invokevirtual 141, 3) := dk_182 0 141 (dk_at dksL_law_41 17 rfl rfl)
theorem dL_law_1110 : decode cL_law 1110 = .ok (.iload 6, 2) := dk_21 6 (dk_at dksL_law_41 20 rfl rfl)
theorem dL_law_1112 : decode cL_law 1112 = .ok (.if_icmp .eq 5, 3) := dk_159 0 5 (dk_at dksL_law_42 0 rfl rfl)
theorem dL_law_1115 : decode cL_law 1115 = .ok (.iconst 0, 1) := dk_3 (dk_at dksL_law_42 3 rfl rfl)
theorem dL_law_1116 : decode cL_law 1116 = .ok (.ireturn, 1) := dk_172 (dk_at dksL_law_42 4 rfl rfl)
theorem dL_law_1117 : decode cL_law 1117 = .ok (.iload 6, 2) := dk_21 6 (dk_at dksL_law_42 5 rfl rfl)
theorem dL_law_1119 : decode cL_law 1119 = .ok (.ifCond .ne 15, 3) := dk_154 0 15 (dk_at dksL_law_42 7 rfl rfl)
theorem dL_law_1122 : decode cL_law 1122 = .ok (.aload_n 3, 1) := dk_45 (dk_at dksL_law_42 10 rfl rfl)
theorem dL_law_1123 : decode cL_law 1123 = .ok (.iconst 0, 1) := dk_3 (dk_at dksL_law_42 11 rfl rfl)
theorem dL_law_1124 : decode cL_law 1124 = .ok (.laload, 1) := dk_47 (dk_at dksL_law_42 12 rfl rfl)
theorem dL_law_1125 : decode cL_law 1125 = .ok (.iload 7, 2) := dk_21 7 (dk_at dksL_law_42 13 rfl rfl)
theorem dL_law_1127 : decode cL_law 1127 = .ok (.i2l, 1) := dk_133 (dk_at dksL_law_42 15 rfl rfl)
theorem dL_law_1128 : decode cL_law 1128 = .ok (.lcmp, 1) := dk_148 (dk_at dksL_law_42 16 rfl rfl)
theorem dL_law_1129 : decode cL_law 1129 = .ok (.ifCond .eq 5, 3) := dk_153 0 5 (dk_at dksL_law_42 17 rfl rfl)
theorem dL_law_1132 : decode cL_law 1132 = .ok (.iconst 0, 1) := dk_3 (dk_at dksL_law_42 20 rfl rfl)
theorem dL_law_1133 : decode cL_law 1133 = .ok (.ireturn, 1) := dk_172 (dk_at dksL_law_42 21 rfl rfl)
theorem dL_law_1134 : decode cL_law 1134 = .ok (.goto 1206, 3) := dk_167 4 182 (dk_at dksL_law_43 0 rfl rfl)
theorem dL_law_1137 : decode cL_law 1137 = .ok (.aload_n 1, 1) := dk_43 (dk_at dksL_law_43 3 rfl rfl)
theorem dL_law_1138 : decode cL_law 1138 = .ok (.aload_n 0, 1) := dk_42 (dk_at dksL_law_43 4 rfl rfl)
theorem dL_law_1139 : decode cL_law 1139 = .ok (.iload 5, 2) := dk_21 5 (dk_at dksL_law_43 5 rfl rfl)
theorem dL_law_1141 : decode cL_law 1141 = .ok (.iconst 1, 1) := dk_4 (dk_at dksL_law_43 7 rfl rfl)
theorem dL_law_1142 : decode cL_law 1142 = .ok (.iadd, 1) := dk_96 (dk_at dksL_law_43 8 rfl rfl)
theorem dL_law_1143 : decode cL_law 1143 = .ok (.iaload, 1) := dk_46 (dk_at dksL_law_43 9 rfl rfl)
theorem dL_law_1144 : decode cL_law 1144 = .ok (.aload_n 0, 1) := dk_42 (dk_at dksL_law_43 10 rfl rfl)
theorem dL_law_1145 : decode cL_law 1145 = .ok (.iload 5, 2) := dk_21 5 (dk_at dksL_law_43 11 rfl rfl)
theorem dL_law_1147 : decode cL_law 1147 = .ok (.iconst 2, 1) := dk_5 (dk_at dksL_law_43 13 rfl rfl)
theorem dL_law_1148 : decode cL_law 1148 = .ok (.iadd, 1) := dk_96 (dk_at dksL_law_43 14 rfl rfl)
theorem dL_law_1149 : decode cL_law 1149 = .ok (.iaload, 1) := dk_46 (dk_at dksL_law_43 15 rfl rfl)
theorem dL_law_1150 : decode cL_law 1150 = .ok (.aload_n 3, 1) := dk_45 (dk_at dksL_law_43 16 rfl rfl)
theorem dL_law_1151 : decode cL_law 1151 = .ok (.invokestatic 190, 3) := dk_184 0 190 (dk_at dksL_law_43 17 rfl rfl)
theorem dL_law_1154 : decode cL_law 1154 = .ok (.istore 6, 2) := dk_54 6 (dk_at dksL_law_43 20 rfl rfl)
theorem dL_law_1156 : decode cL_law 1156 = .ok (.aload_n 2, 1) := dk_44 (dk_at dksL_law_43 22 rfl rfl)
theorem dL_law_1157 : decode cL_law 1157 = .ok (.aload_n 0, 1) := dk_42 (dk_at dksL_law_43 23 rfl rfl)
theorem dL_law_1158 : decode cL_law 1158 = .ok (.iload 5, 2) := dk_21 5 (dk_at dksL_law_44 0 rfl rfl)
theorem dL_law_1160 : decode cL_law 1160 = .ok (.iconst 1, 1) := dk_4 (dk_at dksL_law_44 2 rfl rfl)
theorem dL_law_1161 : decode cL_law 1161 = .ok (.iadd, 1) := dk_96 (dk_at dksL_law_44 3 rfl rfl)
theorem dL_law_1162 : decode cL_law 1162 = .ok (.iaload, 1) := dk_46 (dk_at dksL_law_44 4 rfl rfl)
theorem dL_law_1163 : decode cL_law 1163 = .ok (.aload_n 0, 1) := dk_42 (dk_at dksL_law_44 5 rfl rfl)
theorem dL_law_1164 : decode cL_law 1164 = .ok (.iload 5, 2) := dk_21 5 (dk_at dksL_law_44 6 rfl rfl)
theorem dL_law_1166 : decode cL_law 1166 = .ok (.iconst 2, 1) := dk_5 (dk_at dksL_law_44 8 rfl rfl)
theorem dL_law_1167 : decode cL_law 1167 = .ok (.iadd, 1) := dk_96 (dk_at dksL_law_44 9 rfl rfl)
theorem dL_law_1168 : decode cL_law 1168 = .ok (.iaload, 1) := dk_46 (dk_at dksL_law_44 10 rfl rfl)
theorem dL_law_1169 : decode cL_law 1169 = .ok (.invokevirtual 192, 3) := dk_182 0 192 (dk_at dksL_law_44 11 rfl rfl)
theorem dL_law_1172 : decode cL_law 1172 = .ok (.istore 7, 2) := dk_54 7 (dk_at dksL_law_44 14 rfl rfl)
theorem dL_law_1174 : decode cL_law 1174 = .ok (.aload_n 2, 1) := dk_44 (dk_at dksL_law_44 16 rfl rfl)
theorem dL_law_1175 : decode cL_law 1175 = .ok (.invokevirtual 141, 3) := dk_182 0 141 (dk_at dksL_law_44 17 rfl rfl)
theorem dL_law_1178 : decode cL_law 1178 = .ok (.iload 6, 2) := dk_21 6 (dk_at dksL_law_44 20 rfl rfl)
theorem dL_law_1180 : decode cL_law 1180 = .ok (.if_icmp .eq 5, 3) := dk_159 0 5 (dk_at dksL_law_45 0 rfl rfl)
theorem dL_law_1183 : decode cL_law 1183 = .ok (.iconst 0, 1) := dk_3 (dk_at dksL_law_45 3 rfl rfl)
theorem dL_law_1184 : decode cL_law 1184 = .ok (.ireturn, 1) := dk_172 (dk_at dksL_law_45 4 rfl rfl)
theorem dL_law_1185 : decode cL_law 1185 = .ok (.iload 6, 2) := dk_21 6 (dk_at dksL_law_45 5 rfl rfl)
theorem dL_law_1187 : decode cL_law 1187 = .ok (.ifCond .ne 15, 3) := dk_154 0 15 (dk_at dksL_law_45 7 rfl rfl)
theorem dL_law_1190 : decode cL_law 1190 = .ok (.aload_n 3, 1) := dk_45 (dk_at dksL_law_45 10 rfl rfl)
theorem dL_law_1191 : decode cL_law 1191 = .ok (.iconst 0, 1) := dk_3 (dk_at dksL_law_45 11 rfl rfl)
theorem dL_law_1192 : decode cL_law 1192 = .ok (.laload, 1) := dk_47 (dk_at dksL_law_45 12 rfl rfl)
theorem dL_law_1193 : decode cL_law 1193 = .ok (.iload 7, 2) := dk_21 7 (dk_at dksL_law_45 13 rfl rfl)
theorem dL_law_1195 : decode cL_law 1195 = .ok (.i2l, 1) := dk_133 (dk_at dksL_law_45 15 rfl rfl)
theorem dL_law_1196 : decode cL_law 1196 = .ok (.lcmp, 1) := dk_148 (dk_at dksL_law_45 16 rfl rfl)
theorem dL_law_1197 : decode cL_law 1197 = .ok (.ifCond .eq 5, 3) := dk_153 0 5 (dk_at dksL_law_45 17 rfl rfl)
theorem dL_law_1200 : decode cL_law 1200 = .ok (.iconst 0, 1) := dk_3 (dk_at dksL_law_45 20 rfl rfl)
theorem dL_law_1201 : decode cL_law 1201 = .ok (.ireturn, 1) := dk_172 (dk_at dksL_law_45 21 rfl rfl)
theorem dL_law_1202 : decode cL_law 1202 = .ok (.goto 1138, 3) := dk_167 4 114 (dk_at dksL_law_46 0 rfl rfl)
theorem dL_law_1205 : decode cL_law 1205 = .ok (.aload_n 1, 1) := dk_43 (dk_at dksL_law_46 3 rfl rfl)
theorem dL_law_1206 : decode cL_law 1206 = .ok (.aload_n 0, 1) := dk_42 (dk_at dksL_law_46 4 rfl rfl)
theorem dL_law_1207 : decode cL_law 1207 = .ok (.iload 5, 2) := dk_21 5 (dk_at dksL_law_46 5 rfl rfl)
theorem dL_law_1209 : decode cL_law 1209 = .ok (.iconst 1, 1) := dk_4 (dk_at dksL_law_46 7 rfl rfl)
theorem dL_law_1210 : decode cL_law 1210 = .ok (.iadd, 1) := dk_96 (dk_at dksL_law_46 8 rfl rfl)
theorem dL_law_1211 : decode cL_law 1211 = .ok (.iaload, 1) := dk_46 (dk_at dksL_law_46 9 rfl rfl)
theorem dL_law_1212 : decode cL_law 1212 = .ok (.aload_n 3, 1) := dk_45 (dk_at dksL_law_46 10 rfl rfl)
theorem dL_law_1213 : decode cL_law 1213 = .ok (.invokestatic 193, 3) := dk_184 0 193 (dk_at dksL_law_46 11 rfl rfl)
theorem dL_law_1216 : decode cL_law 1216 = .ok (.istore 6, 2) := dk_54 6 (dk_at dksL_law_46 14 rfl rfl)
theorem dL_law_1218 : decode cL_law 1218 = .ok (.aload_n 2, 1) := dk_44 (dk_at dksL_law_46 16 rfl rfl)
theorem dL_law_1219 : decode cL_law 1219 = .ok (.aload_n 0, 1) := dk_42 (dk_at dksL_law_46 17 rfl rfl)
theorem dL_law_1220 : decode cL_law 1220 = .ok (.iload 5, 2) := dk_21 5 (dk_at dksL_law_46 18 rfl rfl)
theorem dL_law_1222 : decode cL_law 1222 = .ok (.iconst 1, 1) := dk_4 (dk_at dksL_law_46 20 rfl rfl)
theorem dL_law_1223 : decode cL_law 1223 = .ok (.iadd, 1) := dk_96 (dk_at dksL_law_46 21 rfl rfl)
theorem dL_law_1224 : decode cL_law 1224 = .ok (.iaload, 1) := dk_46 (dk_at dksL_law_46 22 rfl rfl)
theorem dL_law_1225 : decode cL_law 1225 = .ok (.invokevirtual 195, 3) := dk_182 0 195 (dk_at dksL_law_47 0 rfl rfl)
theorem dL_law_1228 : decode cL_law 1228 = .ok (.istore 7, 2) := dk_54 7 (dk_at dksL_law_47 3 rfl rfl)
theorem dL_law_1230 : decode cL_law 1230 = .ok (.aload_n 2, 1) := dk_44 (dk_at dksL_law_47 5 rfl rfl)
theorem dL_law_1231 : decode cL_law 1231 = .ok (.invokevirtual 141, 3) := dk_182 0 141 (dk_at dksL_law_47 6 rfl rfl)
theorem dL_law_1234 : decode cL_law 1234 = .ok (.iload 6, 2) := dk_21 6 (dk_at dksL_law_47 9 rfl rfl)
theorem dL_law_1236 : decode cL_law 1236 = .ok (.if_icmp .eq 5, 3) := dk_159 0 5 (dk_at dksL_law_47 11 rfl rfl)
theorem dL_law_1239 : decode cL_law 1239 = .ok (.iconst 0, 1) := dk_3 (dk_at dksL_law_47 14 rfl rfl)
theorem dL_law_1240 : decode cL_law 1240 = .ok (.ireturn, 1) := dk_172 (dk_at dksL_law_47 15 rfl rfl)
theorem dL_law_1241 : decode cL_law 1241 = .ok (.iload 6, 2) := dk_21 6 (dk_at dksL_law_47 16 rfl rfl)
theorem dL_law_1243 : decode cL_law 1243 = .ok (.ifCond .ne 15, 3) := dk_154 0 15 (dk_at dksL_law_47 18 rfl rfl)
theorem dL_law_1246 : decode cL_law 1246 = .ok (.aload_n 3, 1) := dk_45 (dk_at dksL_law_47 21 rfl rfl)
theorem dL_law_1247 : decode cL_law 1247 = .ok (.iconst 0, 1) := dk_3 (dk_at dksL_law_47 22 rfl rfl)
theorem dL_law_1248 : decode cL_law 1248 = .ok (.laload, 1) := dk_47 (dk_at dksL_law_47 23 rfl rfl)
theorem dL_law_1249 : decode cL_law 1249 = .ok (.iload 7, 2) := dk_21 7 (dk_at dksL_law_48 0 rfl rfl)
theorem dL_law_1251 : decode cL_law 1251 = .ok (.i2l, 1) := dk_133 (dk_at dksL_law_48 2 rfl rfl)
theorem dL_law_1252 : decode cL_law 1252 = .ok (.lcmp, 1) := dk_148 (dk_at dksL_law_48 3 rfl rfl)
theorem dL_law_1253 : decode cL_law 1253 = .ok (.ifCond .eq 5, 3) := dk_153 0 5 (dk_at dksL_law_48 4 rfl rfl)
theorem dL_law_1256 : decode cL_law 1256 = .ok (.iconst 0, 1) := dk_3 (dk_at dksL_law_48 7 rfl rfl)
theorem dL_law_1257 : decode cL_law 1257 = .ok (.ireturn, 1) := dk_172 (dk_at dksL_law_48 8 rfl rfl)
theorem dL_law_1258 : decode cL_law 1258 = .ok (.goto 1082, 3) := dk_167 4 58 (dk_at dksL_law_48 9 rfl rfl)
theorem dL_law_1261 : decode cL_law 1261 = .ok (.aload_n 1, 1) := dk_43 (dk_at dksL_law_48 12 rfl rfl)
theorem dL_law_1262 : decode cL_law 1262 = .ok (.aload 4, 2) := dk_25 4 (dk_at dksL_law_48 13 rfl rfl)
theorem dL_law_1264 : decode cL_law 1264 = .ok (.invokestatic 196, 3) := dk_184 0 196 (dk_at dksL_law_48 15 rfl rfl)
theorem dL_law_1267 : decode cL_law 1267 = .ok (.istore 6, 2) := dk_54 6 (dk_at dksL_law_48 18 rfl rfl)
theorem dL_law_1269 : decode cL_law 1269 = .ok (.aload_n 2, 1) := dk_44 (dk_at dksL_law_48 20 rfl rfl)
theorem dL_law_1270 : decode cL_law 1270 = .ok (.invokevirtual 199, 3) := dk_182 0 199 (dk_at dksL_law_48 21 rfl rfl)
theorem dL_law_1273 : decode cL_law 1273 = .ok (.dstore 7, 2) := dk_57 7 (dk_at dksL_law_49 0 rfl rfl)
theorem dL_law_1275 : decode cL_law 1275 = .ok (.aload_n 2, 1) := dk_44 (dk_at dksL_law_49 2 rfl rfl)
theorem dL_law_1276 : decode cL_law 1276 = .ok (.invokevirtual 141, 3) := dk_182 0 141 (dk_at dksL_law_49 3 rfl rfl)
theorem dL_law_1279 : decode cL_law 1279 = .ok (.iload 6, 2) := dk_21 6 (dk_at dksL_law_49 6 rfl rfl)
theorem dL_law_1281 : decode cL_law 1281 = .ok (.if_icmp .eq 5, 3) := dk_159 0 5 (dk_at dksL_law_49 8 rfl rfl)
theorem dL_law_1284 : decode cL_law 1284 = .ok (.iconst 0, 1) := dk_3 (dk_at dksL_law_49 11 rfl rfl)
theorem dL_law_1285 : decode cL_law 1285 = .ok (.ireturn, 1) := dk_172 (dk_at dksL_law_49 12 rfl rfl)
theorem dL_law_1286 : decode cL_law 1286 = .ok (.iload 6, 2) := dk_21 6 (dk_at dksL_law_49 13 rfl rfl)
theorem dL_law_1288 : decode cL_law 1288 = .ok (.ifCond .ne 35, 3) := dk_154 0 35 (dk_at dksL_law_49 15 rfl rfl)
theorem dL_law_1291 : decode cL_law 1291 = .ok (.aload 4, 2) := dk_25 4 (dk_at dksL_law_49 18 rfl rfl)
theorem dL_law_1293 : decode cL_law 1293 = .ok (.iconst 0, 1) := dk_3 (dk_at dksL_law_49 20 rfl rfl)
theorem dL_law_1294 : decode cL_law 1294 = .ok (.daload, 1) := dk_49 (dk_at dksL_law_49 21 rfl rfl)
theorem dL_law_1295 : decode cL_law 1295 = .ok (.dload 7, 2) := dk_24 7 (dk_at dksL_law_49 22 rfl rfl)
theorem dL_law_1297 : decode cL_law 1297 = .ok (.dcmp .l, 1) := dk_151 (dk_at dksL_law_50 0 rfl rfl)
theorem dL_law_1298 : decode cL_law 1298 = .ok (.ifCond .eq 25, 3) := dk_153 0 25 (dk_at dksL_law_50 1 rfl rfl)
theorem dL_law_1301 : decode cL_law 1301 = .ok (.aload 4, 2) := dk_25 4 (dk_at dksL_law_50 4 rfl rfl)
theorem dL_law_1303 : decode cL_law 1303 = .ok (.iconst 0, 1) := dk_3 (dk_at dksL_law_50 6 rfl rfl)
theorem dL_law_1304 : decode cL_law 1304 = .ok (.daload, 1) := dk_49 (dk_at dksL_law_50 7 rfl rfl)
theorem dL_law_1305 : decode cL_law 1305 = .ok (.aload 4, 2) := dk_25 4 (dk_at dksL_law_50 8 rfl rfl)
theorem dL_law_1307 : decode cL_law 1307 = .ok (.iconst 0, 1) := dk_3 (dk_at dksL_law_50 10 rfl rfl)
theorem dL_law_1308 : decode cL_law 1308 = .ok (.daload, 1) := dk_49 (dk_at dksL_law_50 11 rfl rfl)
theorem dL_law_1309 : decode cL_law 1309 = .ok (.dcmp .l, 1) := dk_151 (dk_at dksL_law_50 12 rfl rfl)
theorem dL_law_1310 : decode cL_law 1310 = .ok (.ifCond .eq 11, 3) := dk_153 0 11 (dk_at dksL_law_50 13 rfl rfl)
theorem dL_law_1313 : decode cL_law 1313 = .ok (.dload 7, 2) := dk_24 7 (dk_at dksL_law_50 16 rfl rfl)
theorem dL_law_1315 : decode cL_law 1315 = .ok (.dload 7, 2) := dk_24 7 (dk_at dksL_law_50 18 rfl rfl)
theorem dL_law_1317 : decode cL_law 1317 = .ok (.dcmp .l, 1) := dk_151 (dk_at dksL_law_50 20 rfl rfl)
theorem dL_law_1318 : decode cL_law 1318 = .ok (.ifCond .ne 5, 3) := dk_154 0 5 (dk_at dksL_law_50 21 rfl rfl)
theorem dL_law_1321 : decode cL_law 1321 = .ok (.iconst 0, 1) := dk_3 (dk_at dksL_law_51 0 rfl rfl)
theorem dL_law_1322 : decode cL_law 1322 = .ok (.ireturn, 1) := dk_172 (dk_at dksL_law_51 1 rfl rfl)
theorem dL_law_1323 : decode cL_law 1323 = .ok (.goto 1017, 3) := dk_167 3 249 (dk_at dksL_law_51 2 rfl rfl)
theorem dL_law_1326 : decode cL_law 1326 = .ok (.aload_n 1, 1) := dk_43 (dk_at dksL_law_51 5 rfl rfl)
theorem dL_law_1327 : decode cL_law 1327 = .ok (.aload_n 0, 1) := dk_42 (dk_at dksL_law_51 6 rfl rfl)
theorem dL_law_1328 : decode cL_law 1328 = .ok (.iload 5, 2) := dk_21 5 (dk_at dksL_law_51 7 rfl rfl)
theorem dL_law_1330 : decode cL_law 1330 = .ok (.iconst 1, 1) := dk_4 (dk_at dksL_law_51 9 rfl rfl)
theorem dL_law_1331 : decode cL_law 1331 = .ok (.iadd, 1) := dk_96 (dk_at dksL_law_51 10 rfl rfl)
theorem dL_law_1332 : decode cL_law 1332 = .ok (.iaload, 1) := dk_46 (dk_at dksL_law_51 11 rfl rfl)
theorem dL_law_1333 : decode cL_law 1333 = .ok (.aload_n 3, 1) := dk_45 (dk_at dksL_law_51 12 rfl rfl)
theorem dL_law_1334 : decode cL_law 1334 = .ok (.invokestatic 200, 3) := dk_184 0 200 (dk_at dksL_law_51 13 rfl rfl)
theorem dL_law_1337 : decode cL_law 1337 = .ok (.istore 6, 2) := dk_54 6 (dk_at dksL_law_51 16 rfl rfl)
theorem dL_law_1339 : decode cL_law 1339 = .ok (.aload_n 2, 1) := dk_44 (dk_at dksL_law_51 18 rfl rfl)
theorem dL_law_1340 : decode cL_law 1340 = .ok (.aload_n 0, 1) := dk_42 (dk_at dksL_law_51 19 rfl rfl)
theorem dL_law_1341 : decode cL_law 1341 = .ok (.iload 5, 2) := dk_21 5 (dk_at dksL_law_51 20 rfl rfl)
theorem dL_law_1343 : decode cL_law 1343 = .ok (.iconst 1, 1) := dk_4 (dk_at dksL_law_51 22 rfl rfl)
theorem dL_law_1344 : decode cL_law 1344 = .ok (.iadd, 1) := dk_96 (dk_at dksL_law_51 23 rfl rfl)
theorem dL_law_1345 : decode cL_law 1345 = .ok (.iaload, 1) := dk_46 (dk_at dksL_law_52 0 rfl rfl)
theorem dL_law_1346 : decode cL_law 1346 = .ok (.invokevirtual 202, 3) := dk_182 0 202 (dk_at dksL_law_52 1 rfl rfl)
theorem dL_law_1349 : decode cL_law 1349 = .ok (.istore 7, 2) := dk_54 7 (dk_at dksL_law_52 4 rfl rfl)
theorem dL_law_1351 : decode cL_law 1351 = .ok (.aload_n 2, 1) := dk_44 (dk_at dksL_law_52 6 rfl rfl)
theorem dL_law_1352 : decode cL_law 1352 = .ok (.invokevirtual 141, 3) := dk_182 0 141 (dk_at dksL_law_52 7 rfl rfl)
theorem dL_law_1355 : decode cL_law 1355 = .ok (.iload 6, 2) := dk_21 6 (dk_at dksL_law_52 10 rfl rfl)
theorem dL_law_1357 : decode cL_law 1357 = .ok (.if_icmp .eq 5, 3) := dk_159 0 5 (dk_at dksL_law_52 12 rfl rfl)
theorem dL_law_1360 : decode cL_law 1360 = .ok (.iconst 0, 1) := dk_3 (dk_at dksL_law_52 15 rfl rfl)
theorem dL_law_1361 : decode cL_law 1361 = .ok (.ireturn, 1) := dk_172 (dk_at dksL_law_52 16 rfl rfl)
theorem dL_law_1362 : decode cL_law 1362 = .ok (.iload 6, 2) := dk_21 6 (dk_at dksL_law_52 17 rfl rfl)
theorem dL_law_1364 : decode cL_law 1364 = .ok (.ifCond .ne 15, 3) := dk_154 0 15 (dk_at dksL_law_52 19 rfl rfl)
theorem dL_law_1367 : decode cL_law 1367 = .ok (.aload_n 3, 1) := dk_45 (dk_at dksL_law_52 22 rfl rfl)
theorem dL_law_1368 : decode cL_law 1368 = .ok (.iconst 0, 1) := dk_3 (dk_at dksL_law_52 23 rfl rfl)
theorem dL_law_1369 : decode cL_law 1369 = .ok (.laload, 1) := dk_47 (dk_at dksL_law_53 0 rfl rfl)
theorem dL_law_1370 : decode cL_law 1370 = .ok (.iload 7, 2) := dk_21 7 (dk_at dksL_law_53 1 rfl rfl)
theorem dL_law_1372 : decode cL_law 1372 = .ok (.i2l, 1) := dk_133 (dk_at dksL_law_53 3 rfl rfl)
theorem dL_law_1373 : decode cL_law 1373 = .ok (.lcmp, 1) := dk_148 (dk_at dksL_law_53 4 rfl rfl)
theorem dL_law_1374 : decode cL_law 1374 = .ok (.ifCond .eq 5, 3) := dk_153 0 5 (dk_at dksL_law_53 5 rfl rfl)
theorem dL_law_1377 : decode cL_law 1377 = .ok (.iconst 0, 1) := dk_3 (dk_at dksL_law_53 8 rfl rfl)
theorem dL_law_1378 : decode cL_law 1378 = .ok (.ireturn, 1) := dk_172 (dk_at dksL_law_53 9 rfl rfl)
theorem dL_law_1379 : decode cL_law 1379 = .ok (.goto 961, 3) := dk_167 3 193 (dk_at dksL_law_53 10 rfl rfl)
theorem dL_law_1382 : decode cL_law 1382 = .ok (.aload_n 1, 1) := dk_43 (dk_at dksL_law_53 13 rfl rfl)
theorem dL_law_1383 : decode cL_law 1383 = .ok (.aload_n 0, 1) := dk_42 (dk_at dksL_law_53 14 rfl rfl)
theorem dL_law_1384 : decode cL_law 1384 = .ok (.iload 5, 2) := dk_21 5 (dk_at dksL_law_53 15 rfl rfl)
theorem dL_law_1386 : decode cL_law 1386 = .ok (.iconst 1, 1) := dk_4 (dk_at dksL_law_53 17 rfl rfl)
theorem dL_law_1387 : decode cL_law 1387 = .ok (.iadd, 1) := dk_96 (dk_at dksL_law_53 18 rfl rfl)
theorem dL_law_1388 : decode cL_law 1388 = .ok (.iaload, 1) := dk_46 (dk_at dksL_law_53 19 rfl rfl)
theorem dL_law_1389 : decode cL_law 1389 = .ok (.aload_n 0, 1) := dk_42 (dk_at dksL_law_53 20 rfl rfl)
theorem dL_law_1390 : decode cL_law 1390 = .ok (.iload 5, 2) := dk_21 5 (dk_at dksL_law_53 21 rfl rfl)
theorem dL_law_1392 : decode cL_law 1392 = .ok (.iconst 2, 1) := dk_5 (dk_at dksL_law_53 23 rfl rfl)
theorem dL_law_1393 : decode cL_law 1393 = .ok (.iadd, 1) := dk_96 (dk_at dksL_law_54 0 rfl rfl)
theorem dL_law_1394 : decode cL_law 1394 = .ok (.iaload, 1) := dk_46 (dk_at dksL_law_54 1 rfl rfl)
theorem dL_law_1395 : decode cL_law 1395 = .ok (.aload_n 3, 1) := dk_45 (dk_at dksL_law_54 2 rfl rfl)
theorem dL_law_1396 : decode cL_law 1396 = .ok (.invokestatic 203, 3) := dk_184 0 203 (dk_at dksL_law_54 3 rfl rfl)
theorem dL_law_1399 : decode cL_law 1399 = .ok (.istore 6, 2) := dk_54 6 (dk_at dksL_law_54 6 rfl rfl)
theorem dL_law_1401 : decode cL_law 1401 = .ok (.aload_n 2, 1) := dk_44 (dk_at dksL_law_54 8 rfl rfl)
theorem dL_law_1402 : decode cL_law 1402 = .ok (.aload_n 0, 1) := dk_42 (dk_at dksL_law_54 9 rfl rfl)
theorem dL_law_1403 : decode cL_law 1403 = .ok (.iload 5, 2) := dk_21 5 (dk_at dksL_law_54 10 rfl rfl)
theorem dL_law_1405 : decode cL_law 1405 = .ok (.iconst 1, 1) := dk_4 (dk_at dksL_law_54 12 rfl rfl)
theorem dL_law_1406 : decode cL_law 1406 = .ok (.iadd, 1) := dk_96 (dk_at dksL_law_54 13 rfl rfl)
theorem dL_law_1407 : decode cL_law 1407 = .ok (.iaload, 1) := dk_46 (dk_at dksL_law_54 14 rfl rfl)
theorem dL_law_1408 : decode cL_law 1408 = .ok (.aload_n 0, 1) := dk_42 (dk_at dksL_law_54 15 rfl rfl)
theorem dL_law_1409 : decode cL_law 1409 = .ok (.iload 5, 2) := dk_21 5 (dk_at dksL_law_54 16 rfl rfl)
theorem dL_law_1411 : decode cL_law 1411 = .ok (.iconst 2, 1) := dk_5 (dk_at dksL_law_54 18 rfl rfl)
theorem dL_law_1412 : decode cL_law 1412 = .ok (.iadd, 1) := dk_96 (dk_at dksL_law_54 19 rfl rfl)
theorem dL_law_1413 : decode cL_law 1413 = .ok (.iaload, 1) := dk_46 (dk_at dksL_law_54 20 rfl rfl)
theorem dL_law_1414 : decode cL_law 1414 = .ok (.invokevirtual 205, 3) := dk_182 0 205 (dk_at dksL_law_54 21 rfl rfl)
theorem dL_law_1417 : decode cL_law 1417 = .ok (.istore 7, 2) := dk_54 7 (dk_at dksL_law_55 0 rfl rfl)
theorem dL_law_1419 : decode cL_law 1419 = .ok (.aload_n 2, 1) := dk_44 (dk_at dksL_law_55 2 rfl rfl)
theorem dL_law_1420 : decode cL_law 1420 = .ok (.invokevirtual 141, 3) := dk_182 0 141 (dk_at dksL_law_55 3 rfl rfl)
theorem dL_law_1423 : decode cL_law 1423 = .ok (.iload 6, 2) := dk_21 6 (dk_at dksL_law_55 6 rfl rfl)
theorem dL_law_1425 : decode cL_law 1425 = .ok (.if_icmp .eq 5, 3) := dk_159 0 5 (dk_at dksL_law_55 8 rfl rfl)
theorem dL_law_1428 : decode cL_law 1428 = .ok (.iconst 0, 1) := dk_3 (dk_at dksL_law_55 11 rfl rfl)
theorem dL_law_1429 : decode cL_law 1429 = .ok (.ireturn, 1) := dk_172 (dk_at dksL_law_55 12 rfl rfl)
theorem dL_law_1430 : decode cL_law 1430 = .ok (.iload 6, 2) := dk_21 6 (dk_at dksL_law_55 13 rfl rfl)
theorem dL_law_1432 : decode cL_law 1432 = .ok (.ifCond .ne 15, 3) := dk_154 0 15 (dk_at dksL_law_55 15 rfl rfl)
theorem dL_law_1435 : decode cL_law 1435 = .ok (.aload_n 3, 1) := dk_45 (dk_at dksL_law_55 18 rfl rfl)
theorem dL_law_1436 : decode cL_law 1436 = .ok (.iconst 0, 1) := dk_3 (dk_at dksL_law_55 19 rfl rfl)
theorem dL_law_1437 : decode cL_law 1437 = .ok (.laload, 1) := dk_47 (dk_at dksL_law_55 20 rfl rfl)
theorem dL_law_1438 : decode cL_law 1438 = .ok (.iload 7, 2) := dk_21 7 (dk_at dksL_law_55 21 rfl rfl)
theorem dL_law_1440 : decode cL_law 1440 = .ok (.i2l, 1) := dk_133 (dk_at dksL_law_55 23 rfl rfl)
theorem dL_law_1441 : decode cL_law 1441 = .ok (.lcmp, 1) := dk_148 (dk_at dksL_law_56 0 rfl rfl)
theorem dL_law_1442 : decode cL_law 1442 = .ok (.ifCond .eq 5, 3) := dk_153 0 5 (dk_at dksL_law_56 1 rfl rfl)
theorem dL_law_1445 : decode cL_law 1445 = .ok (.iconst 0, 1) := dk_3 (dk_at dksL_law_56 4 rfl rfl)
theorem dL_law_1446 : decode cL_law 1446 = .ok (.ireturn, 1) := dk_172 (dk_at dksL_law_56 5 rfl rfl)
theorem dL_law_1447 : decode cL_law 1447 = .ok (.goto 893, 3) := dk_167 3 125 (dk_at dksL_law_56 6 rfl rfl)
theorem dL_law_1450 : decode cL_law 1450 = .ok (.aload_n 1, 1) := dk_43 (dk_at dksL_law_56 9 rfl rfl)
theorem dL_law_1451 : decode cL_law 1451 = .ok (.aload_n 0, 1) := dk_42 (dk_at dksL_law_56 10 rfl rfl)
theorem dL_law_1452 : decode cL_law 1452 = .ok (.iload 5, 2) := dk_21 5 (dk_at dksL_law_56 11 rfl rfl)
theorem dL_law_1454 : decode cL_law 1454 = .ok (.iconst 1, 1) := dk_4 (dk_at dksL_law_56 13 rfl rfl)
theorem dL_law_1455 : decode cL_law 1455 = .ok (.iadd, 1) := dk_96 (dk_at dksL_law_56 14 rfl rfl)
theorem dL_law_1456 : decode cL_law 1456 = .ok (.iaload, 1) := dk_46 (dk_at dksL_law_56 15 rfl rfl)
theorem dL_law_1457 : decode cL_law 1457 = .ok (.ifCond .eq 7, 3) := dk_153 0 7 (dk_at dksL_law_56 16 rfl rfl)
theorem dL_law_1460 : decode cL_law 1460 = .ok (.iconst 1, 1) := dk_4 (dk_at dksL_law_56 19 rfl rfl)
theorem dL_law_1461 : decode cL_law 1461 = .ok (.goto 4, 3) := dk_167 0 4 (dk_at dksL_law_56 20 rfl rfl)
theorem dL_law_1464 : decode cL_law 1464 = .ok (.iconst 0, 1) := dk_3 (dk_at dksL_law_56 23 rfl rfl)
theorem dL_law_1465 : decode cL_law 1465 = .ok (.invokevirtual 206, 3) := dk_182 0 206 (dk_at dksL_law_57 0 rfl rfl)
theorem dL_law_1468 : decode cL_law 1468 = .ok (.aload_n 2, 1) := dk_44 (dk_at dksL_law_57 3 rfl rfl)
theorem dL_law_1469 : decode cL_law 1469 = .ok (.aload_n 0, 1) := dk_42 (dk_at dksL_law_57 4 rfl rfl)
theorem dL_law_1470 : decode cL_law 1470 = .ok (.iload 5, 2) := dk_21 5 (dk_at dksL_law_57 5 rfl rfl)
theorem dL_law_1472 : decode cL_law 1472 = .ok (.iconst 1, 1) := dk_4 (dk_at dksL_law_57 7 rfl rfl)
theorem dL_law_1473 : decode cL_law 1473 = .ok (.iadd, 1) := dk_96 (dk_at dksL_law_57 8 rfl rfl)
theorem dL_law_1474 : decode cL_law 1474 = .ok (.iaload, 1) := dk_46 (dk_at dksL_law_57 9 rfl rfl)
theorem dL_law_1475 : decode cL_law 1475 = .ok (.ifCond .eq 7, 3) := dk_153 0 7 (dk_at dksL_law_57 10 rfl rfl)
theorem dL_law_1478 : decode cL_law 1478 = .ok (.iconst 1, 1) := dk_4 (dk_at dksL_law_57 13 rfl rfl)
theorem dL_law_1479 : decode cL_law 1479 = .ok (.goto 4, 3) := dk_167 0 4 (dk_at dksL_law_57 14 rfl rfl)
theorem dL_law_1482 : decode cL_law 1482 = .ok (.iconst 0, 1) := dk_3 (dk_at dksL_law_57 17 rfl rfl)
theorem dL_law_1483 : decode cL_law 1483 = .ok (.invokevirtual 210, 3) := dk_182 0 210 (dk_at dksL_law_57 18 rfl rfl)
theorem dL_law_1486 : decode cL_law 1486 = .ok (.if_icmp .eq 854, 3) := dk_159 3 86 (dk_at dksL_law_57 21 rfl rfl)
theorem dL_law_1489 : decode cL_law 1489 = .ok (.iconst 0, 1) := dk_3 (dk_at dksL_law_58 0 rfl rfl)
theorem dL_law_1490 : decode cL_law 1490 = .ok (.ireturn, 1) := dk_172 (dk_at dksL_law_58 1 rfl rfl)
theorem dL_law_1491 : decode cL_law 1491 = .ok (.aload_n 1, 1) := dk_43 (dk_at dksL_law_58 2 rfl rfl)
theorem dL_law_1492 : decode cL_law 1492 = .ok (.aload_n 0, 1) := dk_42 (dk_at dksL_law_58 3 rfl rfl)
theorem dL_law_1493 : decode cL_law 1493 = .ok (.iload 5, 2) := dk_21 5 (dk_at dksL_law_58 4 rfl rfl)
theorem dL_law_1495 : decode cL_law 1495 = .ok (.iconst 1, 1) := dk_4 (dk_at dksL_law_58 6 rfl rfl)
theorem dL_law_1496 : decode cL_law 1496 = .ok (.iadd, 1) := dk_96 (dk_at dksL_law_58 7 rfl rfl)
theorem dL_law_1497 : decode cL_law 1497 = .ok (.iaload, 1) := dk_46 (dk_at dksL_law_58 8 rfl rfl)
theorem dL_law_1498 : decode cL_law 1498 = .ok (.aload_n 0, 1) := dk_42 (dk_at dksL_law_58 9 rfl rfl)
theorem dL_law_1499 : decode cL_law 1499 = .ok (.iload 5, 2) := dk_21 5 (dk_at dksL_law_58 10 rfl rfl)
theorem dL_law_1501 : decode cL_law 1501 = .ok (.iconst 2, 1) := dk_5 (dk_at dksL_law_58 12 rfl rfl)
theorem dL_law_1502 : decode cL_law 1502 = .ok (.iadd, 1) := dk_96 (dk_at dksL_law_58 13 rfl rfl)
theorem dL_law_1503 : decode cL_law 1503 = .ok (.iaload, 1) := dk_46 (dk_at dksL_law_58 14 rfl rfl)
theorem dL_law_1504 : decode cL_law 1504 = .ok (.aload_n 0, 1) := dk_42 (dk_at dksL_law_58 15 rfl rfl)
theorem dL_law_1505 : decode cL_law 1505 = .ok (.iload 5, 2) := dk_21 5 (dk_at dksL_law_58 16 rfl rfl)
theorem dL_law_1507 : decode cL_law 1507 = .ok (.iconst 3, 1) := dk_6 (dk_at dksL_law_58 18 rfl rfl)
theorem dL_law_1508 : decode cL_law 1508 = .ok (.iadd, 1) := dk_96 (dk_at dksL_law_58 19 rfl rfl)
theorem dL_law_1509 : decode cL_law 1509 = .ok (.iaload, 1) := dk_46 (dk_at dksL_law_58 20 rfl rfl)
theorem dL_law_1510 : decode cL_law 1510 = .ok (.aload_n 3, 1) := dk_45 (dk_at dksL_law_58 21 rfl rfl)
theorem dL_law_1511 : decode cL_law 1511 = .ok (.invokestatic 211, 3) := dk_184 0 211 (dk_at dksL_law_59 0 rfl rfl)
theorem dL_law_1514 : decode cL_law 1514 = .ok (.istore 6, 2) := dk_54 6 (dk_at dksL_law_59 3 rfl rfl)
theorem dL_law_1516 : decode cL_law 1516 = .ok (.aload_n 2, 1) := dk_44 (dk_at dksL_law_59 5 rfl rfl)
theorem dL_law_1517 : decode cL_law 1517 = .ok (.aload_n 0, 1) := dk_42 (dk_at dksL_law_59 6 rfl rfl)
theorem dL_law_1518 : decode cL_law 1518 = .ok (.iload 5, 2) := dk_21 5 (dk_at dksL_law_59 7 rfl rfl)
theorem dL_law_1520 : decode cL_law 1520 = .ok (.iconst 1, 1) := dk_4 (dk_at dksL_law_59 9 rfl rfl)
theorem dL_law_1521 : decode cL_law 1521 = .ok (.iadd, 1) := dk_96 (dk_at dksL_law_59 10 rfl rfl)
theorem dL_law_1522 : decode cL_law 1522 = .ok (.iaload, 1) := dk_46 (dk_at dksL_law_59 11 rfl rfl)
theorem dL_law_1523 : decode cL_law 1523 = .ok (.aload_n 0, 1) := dk_42 (dk_at dksL_law_59 12 rfl rfl)
theorem dL_law_1524 : decode cL_law 1524 = .ok (.iload 5, 2) := dk_21 5 (dk_at dksL_law_59 13 rfl rfl)
theorem dL_law_1526 : decode cL_law 1526 = .ok (.iconst 2, 1) := dk_5 (dk_at dksL_law_59 15 rfl rfl)
theorem dL_law_1527 : decode cL_law 1527 = .ok (.iadd, 1) := dk_96 (dk_at dksL_law_59 16 rfl rfl)
theorem dL_law_1528 : decode cL_law 1528 = .ok (.iaload, 1) := dk_46 (dk_at dksL_law_59 17 rfl rfl)
theorem dL_law_1529 : decode cL_law 1529 = .ok (.aload_n 0, 1) := dk_42 (dk_at dksL_law_59 18 rfl rfl)
theorem dL_law_1530 : decode cL_law 1530 = .ok (.iload 5, 2) := dk_21 5 (dk_at dksL_law_59 19 rfl rfl)
theorem dL_law_1532 : decode cL_law 1532 = .ok (.iconst 3, 1) := dk_6 (dk_at dksL_law_59 21 rfl rfl)
theorem dL_law_1533 : decode cL_law 1533 = .ok (.iadd, 1) := dk_96 (dk_at dksL_law_59 22 rfl rfl)
theorem dL_law_1534 : decode cL_law 1534 = .ok (.iaload, 1) := dk_46 (dk_at dksL_law_59 23 rfl rfl)
theorem dL_law_1535 : decode cL_law 1535 = .ok (.invokevirtual 213, 3) := dk_182 0 213 (dk_at dksL_law_60 0 rfl rfl)
theorem dL_law_1538 : decode cL_law 1538 = .ok (.istore 7, 2) := dk_54 7 (dk_at dksL_law_60 3 rfl rfl)
theorem dL_law_1540 : decode cL_law 1540 = .ok (.aload_n 2, 1) := dk_44 (dk_at dksL_law_60 5 rfl rfl)
theorem dL_law_1541 : decode cL_law 1541 = .ok (.invokevirtual 141, 3) := dk_182 0 141 (dk_at dksL_law_60 6 rfl rfl)
theorem dL_law_1544 : decode cL_law 1544 = .ok (.iload 6, 2) := dk_21 6 (dk_at dksL_law_60 9 rfl rfl)
theorem dL_law_1546 : decode cL_law 1546 = .ok (.if_icmp .eq 5, 3) := dk_159 0 5 (dk_at dksL_law_60 11 rfl rfl)
theorem dL_law_1549 : decode cL_law 1549 = .ok (.iconst 0, 1) := dk_3 (dk_at dksL_law_60 14 rfl rfl)
theorem dL_law_1550 : decode cL_law 1550 = .ok (.ireturn, 1) := dk_172 (dk_at dksL_law_60 15 rfl rfl)
theorem dL_law_1551 : decode cL_law 1551 = .ok (.iload 6, 2) := dk_21 6 (dk_at dksL_law_60 16 rfl rfl)
theorem dL_law_1553 : decode cL_law 1553 = .ok (.ifCond .ne 15, 3) := dk_154 0 15 (dk_at dksL_law_60 18 rfl rfl)
theorem dL_law_1556 : decode cL_law 1556 = .ok (.aload_n 3, 1) := dk_45 (dk_at dksL_law_60 21 rfl rfl)
theorem dL_law_1557 : decode cL_law 1557 = .ok (.iconst 0, 1) := dk_3 (dk_at dksL_law_60 22 rfl rfl)
theorem dL_law_1558 : decode cL_law 1558 = .ok (.laload, 1) := dk_47 (dk_at dksL_law_60 23 rfl rfl)
theorem dL_law_1559 : decode cL_law 1559 = .ok (.iload 7, 2) := dk_21 7 (dk_at dksL_law_61 0 rfl rfl)
theorem dL_law_1561 : decode cL_law 1561 = .ok (.i2l, 1) := dk_133 (dk_at dksL_law_61 2 rfl rfl)
theorem dL_law_1562 : decode cL_law 1562 = .ok (.lcmp, 1) := dk_148 (dk_at dksL_law_61 3 rfl rfl)
theorem dL_law_1563 : decode cL_law 1563 = .ok (.ifCond .eq 5, 3) := dk_153 0 5 (dk_at dksL_law_61 4 rfl rfl)
theorem dL_law_1566 : decode cL_law 1566 = .ok (.iconst 0, 1) := dk_3 (dk_at dksL_law_61 7 rfl rfl)
theorem dL_law_1567 : decode cL_law 1567 = .ok (.ireturn, 1) := dk_172 (dk_at dksL_law_61 8 rfl rfl)
theorem dL_law_1568 : decode cL_law 1568 = .ok (.goto 772, 3) := dk_167 3 4 (dk_at dksL_law_61 9 rfl rfl)
theorem dL_law_1571 : decode cL_law 1571 = .ok (.aload_n 1, 1) := dk_43 (dk_at dksL_law_61 12 rfl rfl)
theorem dL_law_1572 : decode cL_law 1572 = .ok (.aload_n 3, 1) := dk_45 (dk_at dksL_law_61 13 rfl rfl)
theorem dL_law_1573 : decode cL_law 1573 = .ok (.invokestatic 214, 3) := dk_184 0 214 (dk_at dksL_law_61 14 rfl rfl)
theorem dL_law_1576 : decode cL_law 1576 = .ok (.istore 6, 2) := dk_54 6 (dk_at dksL_law_61 17 rfl rfl)
theorem dL_law_1578 : decode cL_law 1578 = .ok (.aload_n 2, 1) := dk_44 (dk_at dksL_law_61 19 rfl rfl)
theorem dL_law_1579 : decode cL_law 1579 = .ok (.invokevirtual 216, 3) := dk_182 0 216 (dk_at dksL_law_61 20 rfl rfl)
theorem dL_law_1582 : decode cL_law 1582 = .ok (.istore 7, 2) := dk_54 7 (dk_at dksL_law_62 0 rfl rfl)
theorem dL_law_1584 : decode cL_law 1584 = .ok (.aload_n 2, 1) := dk_44 (dk_at dksL_law_62 2 rfl rfl)
theorem dL_law_1585 : decode cL_law 1585 = .ok (.invokevirtual 141, 3) := dk_182 0 141 (dk_at dksL_law_62 3 rfl rfl)
theorem dL_law_1588 : decode cL_law 1588 = .ok (.iload 6, 2) := dk_21 6 (dk_at dksL_law_62 6 rfl rfl)
theorem dL_law_1590 : decode cL_law 1590 = .ok (.if_icmp .eq 5, 3) := dk_159 0 5 (dk_at dksL_law_62 8 rfl rfl)
theorem dL_law_1593 : decode cL_law 1593 = .ok (.iconst 0, 1) := dk_3 (dk_at dksL_law_62 11 rfl rfl)
theorem dL_law_1594 : decode cL_law 1594 = .ok (.ireturn, 1) := dk_172 (dk_at dksL_law_62 12 rfl rfl)
theorem dL_law_1595 : decode cL_law 1595 = .ok (.iload 6, 2) := dk_21 6 (dk_at dksL_law_62 13 rfl rfl)
theorem dL_law_1597 : decode cL_law 1597 = .ok (.ifCond .ne 15, 3) := dk_154 0 15 (dk_at dksL_law_62 15 rfl rfl)
theorem dL_law_1600 : decode cL_law 1600 = .ok (.aload_n 3, 1) := dk_45 (dk_at dksL_law_62 18 rfl rfl)
theorem dL_law_1601 : decode cL_law 1601 = .ok (.iconst 0, 1) := dk_3 (dk_at dksL_law_62 19 rfl rfl)
theorem dL_law_1602 : decode cL_law 1602 = .ok (.laload, 1) := dk_47 (dk_at dksL_law_62 20 rfl rfl)
theorem dL_law_1603 : decode cL_law 1603 = .ok (.iload 7, 2) := dk_21 7 (dk_at dksL_law_62 21 rfl rfl)
theorem dL_law_1605 : decode cL_law 1605 = .ok (.i2l, 1) := dk_133 (dk_at dksL_law_62 23 rfl rfl)
theorem dL_law_1606 : decode cL_law 1606 = .ok (.lcmp, 1) := dk_148 (dk_at dksL_law_63 0 rfl rfl)
theorem dL_law_1607 : decode cL_law 1607 = .ok (.ifCond .eq 5, 3) := dk_153 0 5 (dk_at dksL_law_63 1 rfl rfl)
theorem dL_law_1610 : decode cL_law 1610 = .ok (.iconst 0, 1) := dk_3 (dk_at dksL_law_63 4 rfl rfl)
theorem dL_law_1611 : decode cL_law 1611 = .ok (.ireturn, 1) := dk_172 (dk_at dksL_law_63 5 rfl rfl)
theorem dL_law_1612 : decode cL_law 1612 = .ok (.goto 728, 3) := dk_167 2 216 (dk_at dksL_law_63 6 rfl rfl)
theorem dL_law_1615 : decode cL_law 1615 = .ok (.aload_n 1, 1) := dk_43 (dk_at dksL_law_63 9 rfl rfl)
theorem dL_law_1616 : decode cL_law 1616 = .ok (.aload_n 0, 1) := dk_42 (dk_at dksL_law_63 10 rfl rfl)
theorem dL_law_1617 : decode cL_law 1617 = .ok (.iload 5, 2) := dk_21 5 (dk_at dksL_law_63 11 rfl rfl)
theorem dL_law_1619 : decode cL_law 1619 = .ok (.iconst 1, 1) := dk_4 (dk_at dksL_law_63 13 rfl rfl)
theorem dL_law_1620 : decode cL_law 1620 = .ok (.iadd, 1) := dk_96 (dk_at dksL_law_63 14 rfl rfl)
theorem dL_law_1621 : decode cL_law 1621 = .ok (.iaload, 1) := dk_46 (dk_at dksL_law_63 15 rfl rfl)
theorem dL_law_1622 : decode cL_law 1622 = .ok (.aload_n 0, 1) := dk_42 (dk_at dksL_law_63 16 rfl rfl)
theorem dL_law_1623 : decode cL_law 1623 = .ok (.iload 5, 2) := dk_21 5 (dk_at dksL_law_63 17 rfl rfl)
theorem dL_law_1625 : decode cL_law 1625 = .ok (.iconst 2, 1) := dk_5 (dk_at dksL_law_63 19 rfl rfl)
theorem dL_law_1626 : decode cL_law 1626 = .ok (.iadd, 1) := dk_96 (dk_at dksL_law_63 20 rfl rfl)
theorem dL_law_1627 : decode cL_law 1627 = .ok (.iaload, 1) := dk_46 (dk_at dksL_law_63 21 rfl rfl)
theorem dL_law_1628 : decode cL_law 1628 = .ok (.aload_n 3, 1) := dk_45 (dk_at dksL_law_63 22 rfl rfl)
theorem dL_law_1629 : decode cL_law 1629 = .ok (.invokestatic 217, 3) := dk_184 0 217 (dk_at dksL_law_64 0 rfl rfl)
theorem dL_law_1632 : decode cL_law 1632 = .ok (.istore 6, 2) := dk_54 6 (dk_at dksL_law_64 3 rfl rfl)
theorem dL_law_1634 : decode cL_law 1634 = .ok (.aload_n 2, 1) := dk_44 (dk_at dksL_law_64 5 rfl rfl)
theorem dL_law_1635 : decode cL_law 1635 = .ok (.aload_n 0, 1) := dk_42 (dk_at dksL_law_64 6 rfl rfl)
theorem dL_law_1636 : decode cL_law 1636 = .ok (.iload 5, 2) := dk_21 5 (dk_at dksL_law_64 7 rfl rfl)
theorem dL_law_1638 : decode cL_law 1638 = .ok (.iconst 1, 1) := dk_4 (dk_at dksL_law_64 9 rfl rfl)
theorem dL_law_1639 : decode cL_law 1639 = .ok (.iadd, 1) := dk_96 (dk_at dksL_law_64 10 rfl rfl)
theorem dL_law_1640 : decode cL_law 1640 = .ok (.iaload, 1) := dk_46 (dk_at dksL_law_64 11 rfl rfl)
theorem dL_law_1641 : decode cL_law 1641 = .ok (.aload_n 0, 1) := dk_42 (dk_at dksL_law_64 12 rfl rfl)
theorem dL_law_1642 : decode cL_law 1642 = .ok (.iload 5, 2) := dk_21 5 (dk_at dksL_law_64 13 rfl rfl)
theorem dL_law_1644 : decode cL_law 1644 = .ok (.iconst 2, 1) := dk_5 (dk_at dksL_law_64 15 rfl rfl)
theorem dL_law_1645 : decode cL_law 1645 = .ok (.iadd, 1) := dk_96 (dk_at dksL_law_64 16 rfl rfl)
theorem dL_law_1646 : decode cL_law 1646 = .ok (.iaload, 1) := dk_46 (dk_at dksL_law_64 17 rfl rfl)
theorem dL_law_1647 : decode cL_law 1647 = .ok (.invokevirtual 219, 3) := dk_182 0 219 (dk_at dksL_law_64 18 rfl rfl)
theorem dL_law_1650 : decode cL_law 1650 = .ok (.istore 7, 2) := dk_54 7 (dk_at dksL_law_64 21 rfl rfl)
theorem dL_law_1652 : decode cL_law 1652 = .ok (.aload_n 2, 1) := dk_44 (dk_at dksL_law_64 23 rfl rfl)
theorem dL_law_1653 : decode cL_law 1653 = .ok (.invokevirtual 141, 3) := dk_182 0 141 (dk_at dksL_law_65 0 rfl rfl)
theorem dL_law_1656 : decode cL_law 1656 = .ok (.iload 6, 2) := dk_21 6 (dk_at dksL_law_65 3 rfl rfl)
theorem dL_law_1658 : decode cL_law 1658 = .ok (.if_icmp .eq 5, 3) := dk_159 0 5 (dk_at dksL_law_65 5 rfl rfl)
theorem dL_law_1661 : decode cL_law 1661 = .ok (.iconst 0, 1) := dk_3 (dk_at dksL_law_65 8 rfl rfl)
theorem dL_law_1662 : decode cL_law 1662 = .ok (.ireturn, 1) := dk_172 (dk_at dksL_law_65 9 rfl rfl)
theorem dL_law_1663 : decode cL_law 1663 = .ok (.iload 6, 2) := dk_21 6 (dk_at dksL_law_65 10 rfl rfl)
theorem dL_law_1665 : decode cL_law 1665 = .ok (.ifCond .ne 15, 3) := dk_154 0 15 (dk_at dksL_law_65 12 rfl rfl)
theorem dL_law_1668 : decode cL_law 1668 = .ok (.aload_n 3, 1) := dk_45 (dk_at dksL_law_65 15 rfl rfl)
theorem dL_law_1669 : decode cL_law 1669 = .ok (.iconst 0, 1) := dk_3 (dk_at dksL_law_65 16 rfl rfl)
theorem dL_law_1670 : decode cL_law 1670 = .ok (.laload, 1) := dk_47 (dk_at dksL_law_65 17 rfl rfl)
theorem dL_law_1671 : decode cL_law 1671 = .ok (.iload 7, 2) := dk_21 7 (dk_at dksL_law_65 18 rfl rfl)
theorem dL_law_1673 : decode cL_law 1673 = .ok (.i2l, 1) := dk_133 (dk_at dksL_law_65 20 rfl rfl)
theorem dL_law_1674 : decode cL_law 1674 = .ok (.lcmp, 1) := dk_148 (dk_at dksL_law_65 21 rfl rfl)
theorem dL_law_1675 : decode cL_law 1675 = .ok (.ifCond .eq 5, 3) := dk_153 0 5 (dk_at dksL_law_66 0 rfl rfl)
theorem dL_law_1678 : decode cL_law 1678 = .ok (.iconst 0, 1) := dk_3 (dk_at dksL_law_66 3 rfl rfl)
theorem dL_law_1679 : decode cL_law 1679 = .ok (.ireturn, 1) := dk_172 (dk_at dksL_law_66 4 rfl rfl)
theorem dL_law_1680 : decode cL_law 1680 = .ok (.goto 660, 3) := dk_167 2 148 (dk_at dksL_law_66 5 rfl rfl)
theorem dL_law_1683 : decode cL_law 1683 = .ok (.aload_n 1, 1) := dk_43 (dk_at dksL_law_66 8 rfl rfl)
theorem dL_law_1684 : decode cL_law 1684 = .ok (.aload_n 0, 1) := dk_42 (dk_at dksL_law_66 9 rfl rfl)
theorem dL_law_1685 : decode cL_law 1685 = .ok (.iload 5, 2) := dk_21 5 (dk_at dksL_law_66 10 rfl rfl)
theorem dL_law_1687 : decode cL_law 1687 = .ok (.iconst 1, 1) := dk_4 (dk_at dksL_law_66 12 rfl rfl)
theorem dL_law_1688 : decode cL_law 1688 = .ok (.iadd, 1) := dk_96 (dk_at dksL_law_66 13 rfl rfl)
theorem dL_law_1689 : decode cL_law 1689 = .ok (.iaload, 1) := dk_46 (dk_at dksL_law_66 14 rfl rfl)
theorem dL_law_1690 : decode cL_law 1690 = .ok (.aload_n 0, 1) := dk_42 (dk_at dksL_law_66 15 rfl rfl)
theorem dL_law_1691 : decode cL_law 1691 = .ok (.iload 5, 2) := dk_21 5 (dk_at dksL_law_66 16 rfl rfl)
theorem dL_law_1693 : decode cL_law 1693 = .ok (.iconst 2, 1) := dk_5 (dk_at dksL_law_66 18 rfl rfl)
theorem dL_law_1694 : decode cL_law 1694 = .ok (.iadd, 1) := dk_96 (dk_at dksL_law_66 19 rfl rfl)
theorem dL_law_1695 : decode cL_law 1695 = .ok (.iaload, 1) := dk_46 (dk_at dksL_law_66 20 rfl rfl)
theorem dL_law_1696 : decode cL_law 1696 = .ok (.aload_n 3, 1) := dk_45 (dk_at dksL_law_66 21 rfl rfl)
theorem dL_law_1697 : decode cL_law 1697 = .ok (.invokestatic 220, 3) := dk_184 0 220 (dk_at dksL_law_67 0 rfl rfl)
theorem dL_law_1700 : decode cL_law 1700 = .ok (.istore 6, 2) := dk_54 6 (dk_at dksL_law_67 3 rfl rfl)
theorem dL_law_1702 : decode cL_law 1702 = .ok (.aload_n 2, 1) := dk_44 (dk_at dksL_law_67 5 rfl rfl)
theorem dL_law_1703 : decode cL_law 1703 = .ok (.aload_n 0, 1) := dk_42 (dk_at dksL_law_67 6 rfl rfl)
theorem dL_law_1704 : decode cL_law 1704 = .ok (.iload 5, 2) := dk_21 5 (dk_at dksL_law_67 7 rfl rfl)
theorem dL_law_1706 : decode cL_law 1706 = .ok (.iconst 1, 1) := dk_4 (dk_at dksL_law_67 9 rfl rfl)
theorem dL_law_1707 : decode cL_law 1707 = .ok (.iadd, 1) := dk_96 (dk_at dksL_law_67 10 rfl rfl)
theorem dL_law_1708 : decode cL_law 1708 = .ok (.iaload, 1) := dk_46 (dk_at dksL_law_67 11 rfl rfl)
theorem dL_law_1709 : decode cL_law 1709 = .ok (.aload_n 0, 1) := dk_42 (dk_at dksL_law_67 12 rfl rfl)
theorem dL_law_1710 : decode cL_law 1710 = .ok (.iload 5, 2) := dk_21 5 (dk_at dksL_law_67 13 rfl rfl)
theorem dL_law_1712 : decode cL_law 1712 = .ok (.iconst 2, 1) := dk_5 (dk_at dksL_law_67 15 rfl rfl)
theorem dL_law_1713 : decode cL_law 1713 = .ok (.iadd, 1) := dk_96 (dk_at dksL_law_67 16 rfl rfl)
theorem dL_law_1714 : decode cL_law 1714 = .ok (.iaload, 1) := dk_46 (dk_at dksL_law_67 17 rfl rfl)
theorem dL_law_1715 : decode cL_law 1715 = .ok (.invokevirtual 222, 3) := dk_182 0 222 (dk_at dksL_law_67 18 rfl rfl)
theorem dL_law_1718 : decode cL_law 1718 = .ok (.istore 7, 2) := dk_54 7 (dk_at dksL_law_67 21 rfl rfl)
theorem dL_law_1720 : decode cL_law 1720 = .ok (.aload_n 2, 1) := dk_44 (dk_at dksL_law_67 23 rfl rfl)
theorem dL_law_1721 : decode cL_law 1721 = .ok (.invokevirtual 141, 3) := dk_182 0 141 (dk_at dksL_law_68 0 rfl rfl)
theorem dL_law_1724 : decode cL_law 1724 = .ok (.iload 6, 2) := dk_21 6 (dk_at dksL_law_68 3 rfl rfl)
theorem dL_law_1726 : decode cL_law 1726 = .ok (.if_icmp .eq 5, 3) := dk_159 0 5 (dk_at dksL_law_68 5 rfl rfl)
theorem dL_law_1729 : decode cL_law 1729 = .ok (.iconst 0, 1) := dk_3 (dk_at dksL_law_68 8 rfl rfl)
theorem dL_law_1730 : decode cL_law 1730 = .ok (.ireturn, 1) := dk_172 (dk_at dksL_law_68 9 rfl rfl)
theorem dL_law_1731 : decode cL_law 1731 = .ok (.iload 6, 2) := dk_21 6 (dk_at dksL_law_68 10 rfl rfl)
theorem dL_law_1733 : decode cL_law 1733 = .ok (.ifCond .ne 15, 3) := dk_154 0 15 (dk_at dksL_law_68 12 rfl rfl)
theorem dL_law_1736 : decode cL_law 1736 = .ok (.aload_n 3, 1) := dk_45 (dk_at dksL_law_68 15 rfl rfl)
theorem dL_law_1737 : decode cL_law 1737 = .ok (.iconst 0, 1) := dk_3 (dk_at dksL_law_68 16 rfl rfl)
theorem dL_law_1738 : decode cL_law 1738 = .ok (.laload, 1) := dk_47 (dk_at dksL_law_68 17 rfl rfl)
theorem dL_law_1739 : decode cL_law 1739 = .ok (.iload 7, 2) := dk_21 7 (dk_at dksL_law_68 18 rfl rfl)
theorem dL_law_1741 : decode cL_law 1741 = .ok (.i2l, 1) := dk_133 (dk_at dksL_law_68 20 rfl rfl)
theorem dL_law_1742 : decode cL_law 1742 = .ok (.lcmp, 1) := dk_148 (dk_at dksL_law_68 21 rfl rfl)
theorem dL_law_1743 : decode cL_law 1743 = .ok (.ifCond .eq 5, 3) := dk_153 0 5 (dk_at dksL_law_69 0 rfl rfl)
theorem dL_law_1746 : decode cL_law 1746 = .ok (.iconst 0, 1) := dk_3 (dk_at dksL_law_69 3 rfl rfl)
theorem dL_law_1747 : decode cL_law 1747 = .ok (.ireturn, 1) := dk_172 (dk_at dksL_law_69 4 rfl rfl)
theorem dL_law_1748 : decode cL_law 1748 = .ok (.goto 592, 3) := dk_167 2 80 (dk_at dksL_law_69 5 rfl rfl)
theorem dL_law_1751 : decode cL_law 1751 = .ok (.aload_n 1, 1) := dk_43 (dk_at dksL_law_69 8 rfl rfl)
theorem dL_law_1752 : decode cL_law 1752 = .ok (.aload_n 3, 1) := dk_45 (dk_at dksL_law_69 9 rfl rfl)
theorem dL_law_1753 : decode cL_law 1753 = .ok (.invokestatic 223, 3) := dk_184 0 223 (dk_at dksL_law_69 10 rfl rfl)
theorem dL_law_1756 : decode cL_law 1756 = .ok (.istore 6, 2) := dk_54 6 (dk_at dksL_law_69 13 rfl rfl)
theorem dL_law_1758 : decode cL_law 1758 = .ok (.aload_n 2, 1) := dk_44 (dk_at dksL_law_69 15 rfl rfl)
theorem dL_law_1759 : decode cL_law 1759 = .ok (.invokevirtual 225, 3) := dk_182 0 225 (dk_at dksL_law_69 16 rfl rfl)
theorem dL_law_1762 : decode cL_law 1762 = .ok (.istore 7, 2) := dk_54 7 (dk_at dksL_law_69 19 rfl rfl)
theorem dL_law_1764 : decode cL_law 1764 = .ok (.aload_n 2, 1) := dk_44 (dk_at dksL_law_69 21 rfl rfl)
theorem dL_law_1765 : decode cL_law 1765 = .ok (.invokevirtual 141, 3) := dk_182 0 141 (dk_at dksL_law_70 0 rfl rfl)
theorem dL_law_1768 : decode cL_law 1768 = .ok (.iload 6, 2) := dk_21 6 (dk_at dksL_law_70 3 rfl rfl)
theorem dL_law_1770 : decode cL_law 1770 = .ok (.if_icmp .eq 5, 3) := dk_159 0 5 (dk_at dksL_law_70 5 rfl rfl)
theorem dL_law_1773 : decode cL_law 1773 = .ok (.iconst 0, 1) := dk_3 (dk_at dksL_law_70 8 rfl rfl)
theorem dL_law_1774 : decode cL_law 1774 = .ok (.ireturn, 1) := dk_172 (dk_at dksL_law_70 9 rfl rfl)
theorem dL_law_1775 : decode cL_law 1775 = .ok (.iload 6, 2) := dk_21 6 (dk_at dksL_law_70 10 rfl rfl)
theorem dL_law_1777 : decode cL_law 1777 = .ok (.ifCond .ne 15, 3) := dk_154 0 15 (dk_at dksL_law_70 12 rfl rfl)
theorem dL_law_1780 : decode cL_law 1780 = .ok (.aload_n 3, 1) := dk_45 (dk_at dksL_law_70 15 rfl rfl)
theorem dL_law_1781 : decode cL_law 1781 = .ok (.iconst 0, 1) := dk_3 (dk_at dksL_law_70 16 rfl rfl)
theorem dL_law_1782 : decode cL_law 1782 = .ok (.laload, 1) := dk_47 (dk_at dksL_law_70 17 rfl rfl)
theorem dL_law_1783 : decode cL_law 1783 = .ok (.iload 7, 2) := dk_21 7 (dk_at dksL_law_70 18 rfl rfl)
theorem dL_law_1785 : decode cL_law 1785 = .ok (.i2l, 1) := dk_133 (dk_at dksL_law_70 20 rfl rfl)
theorem dL_law_1786 : decode cL_law 1786 = .ok (.lcmp, 1) := dk_148 (dk_at dksL_law_70 21 rfl rfl)
theorem dL_law_1787 : decode cL_law 1787 = .ok (.ifCond .eq 5, 3) := dk_153 0 5 (dk_at dksL_law_71 0 rfl rfl)
theorem dL_law_1790 : decode cL_law 1790 = .ok (.iconst 0, 1) := dk_3 (dk_at dksL_law_71 3 rfl rfl)
theorem dL_law_1791 : decode cL_law 1791 = .ok (.ireturn, 1) := dk_172 (dk_at dksL_law_71 4 rfl rfl)
theorem dL_law_1792 : decode cL_law 1792 = .ok (.goto 548, 3) := dk_167 2 36 (dk_at dksL_law_71 5 rfl rfl)
theorem dL_law_1795 : decode cL_law 1795 = .ok (.aload_n 1, 1) := dk_43 (dk_at dksL_law_71 8 rfl rfl)
theorem dL_law_1796 : decode cL_law 1796 = .ok (.aload_n 3, 1) := dk_45 (dk_at dksL_law_71 9 rfl rfl)
theorem dL_law_1797 : decode cL_law 1797 = .ok (.invokestatic 226, 3) := dk_184 0 226 (dk_at dksL_law_71 10 rfl rfl)
theorem dL_law_1800 : decode cL_law 1800 = .ok (.istore 6, 2) := dk_54 6 (dk_at dksL_law_71 13 rfl rfl)
theorem dL_law_1802 : decode cL_law 1802 = .ok (.aload_n 2, 1) := dk_44 (dk_at dksL_law_71 15 rfl rfl)
theorem dL_law_1803 : decode cL_law 1803 = .ok (.invokevirtual 228, 3) := dk_182 0 228 (dk_at dksL_law_71 16 rfl rfl)
theorem dL_law_1806 : decode cL_law 1806 = .ok (.istore 7, 2) := dk_54 7 (dk_at dksL_law_71 19 rfl rfl)
theorem dL_law_1808 : decode cL_law 1808 = .ok (.aload_n 2, 1) := dk_44 (dk_at dksL_law_71 21 rfl rfl)
theorem dL_law_1809 : decode cL_law 1809 = .ok (.invokevirtual 141, 3) := dk_182 0 141 (dk_at dksL_law_72 0 rfl rfl)
theorem dL_law_1812 : decode cL_law 1812 = .ok (.iload 6, 2) := dk_21 6 (dk_at dksL_law_72 3 rfl rfl)
theorem dL_law_1814 : decode cL_law 1814 = .ok (.if_icmp .eq 5, 3) := dk_159 0 5 (dk_at dksL_law_72 5 rfl rfl)
theorem dL_law_1817 : decode cL_law 1817 = .ok (.iconst 0, 1) := dk_3 (dk_at dksL_law_72 8 rfl rfl)
theorem dL_law_1818 : decode cL_law 1818 = .ok (.ireturn, 1) := dk_172 (dk_at dksL_law_72 9 rfl rfl)
theorem dL_law_1819 : decode cL_law 1819 = .ok (.iload 6, 2) := dk_21 6 (dk_at dksL_law_72 10 rfl rfl)
theorem dL_law_1821 : decode cL_law 1821 = .ok (.ifCond .ne 15, 3) := dk_154 0 15 (dk_at dksL_law_72 12 rfl rfl)
theorem dL_law_1824 : decode cL_law 1824 = .ok (.aload_n 3, 1) := dk_45 (dk_at dksL_law_72 15 rfl rfl)
theorem dL_law_1825 : decode cL_law 1825 = .ok (.iconst 0, 1) := dk_3 (dk_at dksL_law_72 16 rfl rfl)
theorem dL_law_1826 : decode cL_law 1826 = .ok (.laload, 1) := dk_47 (dk_at dksL_law_72 17 rfl rfl)
theorem dL_law_1827 : decode cL_law 1827 = .ok (.iload 7, 2) := dk_21 7 (dk_at dksL_law_72 18 rfl rfl)
theorem dL_law_1829 : decode cL_law 1829 = .ok (.i2l, 1) := dk_133 (dk_at dksL_law_72 20 rfl rfl)
theorem dL_law_1830 : decode cL_law 1830 = .ok (.lcmp, 1) := dk_148 (dk_at dksL_law_72 21 rfl rfl)
theorem dL_law_1831 : decode cL_law 1831 = .ok (.ifCond .eq 5, 3) := dk_153 0 5 (dk_at dksL_law_73 0 rfl rfl)
theorem dL_law_1834 : decode cL_law 1834 = .ok (.iconst 0, 1) := dk_3 (dk_at dksL_law_73 3 rfl rfl)
theorem dL_law_1835 : decode cL_law 1835 = .ok (.ireturn, 1) := dk_172 (dk_at dksL_law_73 4 rfl rfl)
theorem dL_law_1836 : decode cL_law 1836 = .ok (.goto 504, 3) := dk_167 1 248 (dk_at dksL_law_73 5 rfl rfl)
theorem dL_law_1839 : decode cL_law 1839 = .ok (.aload_n 1, 1) := dk_43 (dk_at dksL_law_73 8 rfl rfl)
theorem dL_law_1840 : decode cL_law 1840 = .ok (.aload_n 0, 1) := dk_42 (dk_at dksL_law_73 9 rfl rfl)
theorem dL_law_1841 : decode cL_law 1841 = .ok (.iload 5, 2) := dk_21 5 (dk_at dksL_law_73 10 rfl rfl)
theorem dL_law_1843 : decode cL_law 1843 = .ok (.iconst 1, 1) := dk_4 (dk_at dksL_law_73 12 rfl rfl)
theorem dL_law_1844 : decode cL_law 1844 = .ok (.iadd, 1) := dk_96 (dk_at dksL_law_73 13 rfl rfl)
theorem dL_law_1845 : decode cL_law 1845 = .ok (.iaload, 1) := dk_46 (dk_at dksL_law_73 14 rfl rfl)
theorem dL_law_1846 : decode cL_law 1846 = .ok (.aload_n 3, 1) := dk_45 (dk_at dksL_law_73 15 rfl rfl)
theorem dL_law_1847 : decode cL_law 1847 = .ok (.invokestatic 229, 3) := dk_184 0 229 (dk_at dksL_law_73 16 rfl rfl)
theorem dL_law_1850 : decode cL_law 1850 = .ok (.istore 6, 2) := dk_54 6 (dk_at dksL_law_73 19 rfl rfl)
theorem dL_law_1852 : decode cL_law 1852 = .ok (.aload_n 2, 1) := dk_44 (dk_at dksL_law_73 21 rfl rfl)
theorem dL_law_1853 : decode cL_law 1853 = .ok (.aload_n 0, 1) := dk_42 (dk_at dksL_law_73 22 rfl rfl)
theorem dL_law_1854 : decode cL_law 1854 = .ok (.iload 5, 2) := dk_21 5 (dk_at dksL_law_74 0 rfl rfl)
theorem dL_law_1856 : decode cL_law 1856 = .ok (.iconst 1, 1) := dk_4 (dk_at dksL_law_74 2 rfl rfl)
theorem dL_law_1857 : decode cL_law 1857 = .ok (.iadd, 1) := dk_96 (dk_at dksL_law_74 3 rfl rfl)
theorem dL_law_1858 : decode cL_law 1858 = .ok (.iaload, 1) := dk_46 (dk_at dksL_law_74 4 rfl rfl)
theorem dL_law_1859 : decode cL_law 1859 = .ok (.invokevirtual 231, 3) := dk_182 0 231 (dk_at dksL_law_74 5 rfl rfl)
theorem dL_law_1862 : decode cL_law 1862 = .ok (.istore 7, 2) := dk_54 7 (dk_at dksL_law_74 8 rfl rfl)
theorem dL_law_1864 : decode cL_law 1864 = .ok (.aload_n 2, 1) := dk_44 (dk_at dksL_law_74 10 rfl rfl)
theorem dL_law_1865 : decode cL_law 1865 = .ok (.invokevirtual 141, 3) := dk_182 0 141 (dk_at dksL_law_74 11 rfl rfl)
theorem dL_law_1868 : decode cL_law 1868 = .ok (.iload 6, 2) := dk_21 6 (dk_at dksL_law_74 14 rfl rfl)
theorem dL_law_1870 : decode cL_law 1870 = .ok (.if_icmp .eq 5, 3) := dk_159 0 5 (dk_at dksL_law_74 16 rfl rfl)
theorem dL_law_1873 : decode cL_law 1873 = .ok (.iconst 0, 1) := dk_3 (dk_at dksL_law_74 19 rfl rfl)
theorem dL_law_1874 : decode cL_law 1874 = .ok (.ireturn, 1) := dk_172 (dk_at dksL_law_74 20 rfl rfl)
theorem dL_law_1875 : decode cL_law 1875 = .ok (.iload 6, 2) := dk_21 6 (dk_at dksL_law_74 21 rfl rfl)
theorem dL_law_1877 : decode cL_law 1877 = .ok (.ifCond .ne 15, 3) := dk_154 0 15 (dk_at dksL_law_75 0 rfl rfl)
theorem dL_law_1880 : decode cL_law 1880 = .ok (.aload_n 3, 1) := dk_45 (dk_at dksL_law_75 3 rfl rfl)
theorem dL_law_1881 : decode cL_law 1881 = .ok (.iconst 0, 1) := dk_3 (dk_at dksL_law_75 4 rfl rfl)
theorem dL_law_1882 : decode cL_law 1882 = .ok (.laload, 1) := dk_47 (dk_at dksL_law_75 5 rfl rfl)
theorem dL_law_1883 : decode cL_law 1883 = .ok (.iload 7, 2) := dk_21 7 (dk_at dksL_law_75 6 rfl rfl)
theorem dL_law_1885 : decode cL_law 1885 = .ok (.i2l, 1) := dk_133 (dk_at dksL_law_75 8 rfl rfl)
theorem dL_law_1886 : decode cL_law 1886 = .ok (.lcmp, 1) := dk_148 (dk_at dksL_law_75 9 rfl rfl)
theorem dL_law_1887 : decode cL_law 1887 = .ok (.ifCond .eq 5, 3) := dk_153 0 5 (dk_at dksL_law_75 10 rfl rfl)
theorem dL_law_1890 : decode cL_law 1890 = .ok (.iconst 0, 1) := dk_3 (dk_at dksL_law_75 13 rfl rfl)
theorem dL_law_1891 : decode cL_law 1891 = .ok (.ireturn, 1) := dk_172 (dk_at dksL_law_75 14 rfl rfl)
theorem dL_law_1892 : decode cL_law 1892 = .ok (.goto 448, 3) := dk_167 1 192 (dk_at dksL_law_75 15 rfl rfl)
theorem dL_law_1895 : decode cL_law 1895 = .ok (.aload_n 1, 1) := dk_43 (dk_at dksL_law_75 18 rfl rfl)
theorem dL_law_1896 : decode cL_law 1896 = .ok (.aload_n 0, 1) := dk_42 (dk_at dksL_law_75 19 rfl rfl)
theorem dL_law_1897 : decode cL_law 1897 = .ok (.iload 5, 2) := dk_21 5 (dk_at dksL_law_75 20 rfl rfl)
theorem dL_law_1899 : decode cL_law 1899 = .ok (.iconst 1, 1) := dk_4 (dk_at dksL_law_75 22 rfl rfl)
theorem dL_law_1900 : decode cL_law 1900 = .ok (.iadd, 1) := dk_96 (dk_at dksL_law_75 23 rfl rfl)
theorem dL_law_1901 : decode cL_law 1901 = .ok (.iaload, 1) := dk_46 (dk_at dksL_law_76 0 rfl rfl)
theorem dL_law_1902 : decode cL_law 1902 = .ok (.aload_n 3, 1) := dk_45 (dk_at dksL_law_76 1 rfl rfl)
theorem dL_law_1903 : decode cL_law 1903 = .ok (.invokestatic 232, 3) := dk_184 0 232 (dk_at dksL_law_76 2 rfl rfl)
theorem dL_law_1906 : decode cL_law 1906 = .ok (.istore 6, 2) := dk_54 6 (dk_at dksL_law_76 5 rfl rfl)
theorem dL_law_1908 : decode cL_law 1908 = .ok (.aload_n 2, 1) := dk_44 (dk_at dksL_law_76 7 rfl rfl)
theorem dL_law_1909 : decode cL_law 1909 = .ok (.aload_n 0, 1) := dk_42 (dk_at dksL_law_76 8 rfl rfl)
theorem dL_law_1910 : decode cL_law 1910 = .ok (.iload 5, 2) := dk_21 5 (dk_at dksL_law_76 9 rfl rfl)
theorem dL_law_1912 : decode cL_law 1912 = .ok (.iconst 1, 1) := dk_4 (dk_at dksL_law_76 11 rfl rfl)
theorem dL_law_1913 : decode cL_law 1913 = .ok (.iadd, 1) := dk_96 (dk_at dksL_law_76 12 rfl rfl)
theorem dL_law_1914 : decode cL_law 1914 = .ok (.iaload, 1) := dk_46 (dk_at dksL_law_76 13 rfl rfl)
theorem dL_law_1915 : decode cL_law 1915 = .ok (.invokevirtual 234, 3) := dk_182 0 234 (dk_at dksL_law_76 14 rfl rfl)
theorem dL_law_1918 : decode cL_law 1918 = .ok (.istore 7, 2) := dk_54 7 (dk_at dksL_law_76 17 rfl rfl)
theorem dL_law_1920 : decode cL_law 1920 = .ok (.aload_n 2, 1) := dk_44 (dk_at dksL_law_76 19 rfl rfl)
theorem dL_law_1921 : decode cL_law 1921 = .ok (.invokevirtual 141, 3) := dk_182 0 141 (dk_at dksL_law_76 20 rfl rfl)
theorem dL_law_1924 : decode cL_law 1924 = .ok (.iload 6, 2) := dk_21 6 (dk_at dksL_law_77 0 rfl rfl)
theorem dL_law_1926 : decode cL_law 1926 = .ok (.if_icmp .eq 5, 3) := dk_159 0 5 (dk_at dksL_law_77 2 rfl rfl)
theorem dL_law_1929 : decode cL_law 1929 = .ok (.iconst 0, 1) := dk_3 (dk_at dksL_law_77 5 rfl rfl)
theorem dL_law_1930 : decode cL_law 1930 = .ok (.ireturn, 1) := dk_172 (dk_at dksL_law_77 6 rfl rfl)
theorem dL_law_1931 : decode cL_law 1931 = .ok (.iload 6, 2) := dk_21 6 (dk_at dksL_law_77 7 rfl rfl)
theorem dL_law_1933 : decode cL_law 1933 = .ok (.ifCond .ne 15, 3) := dk_154 0 15 (dk_at dksL_law_77 9 rfl rfl)
theorem dL_law_1936 : decode cL_law 1936 = .ok (.aload_n 3, 1) := dk_45 (dk_at dksL_law_77 12 rfl rfl)
theorem dL_law_1937 : decode cL_law 1937 = .ok (.iconst 0, 1) := dk_3 (dk_at dksL_law_77 13 rfl rfl)
theorem dL_law_1938 : decode cL_law 1938 = .ok (.laload, 1) := dk_47 (dk_at dksL_law_77 14 rfl rfl)
theorem dL_law_1939 : decode cL_law 1939 = .ok (.iload 7, 2) := dk_21 7 (dk_at dksL_law_77 15 rfl rfl)
theorem dL_law_1941 : decode cL_law 1941 = .ok (.i2l, 1) := dk_133 (dk_at dksL_law_77 17 rfl rfl)
theorem dL_law_1942 : decode cL_law 1942 = .ok (.lcmp, 1) := dk_148 (dk_at dksL_law_77 18 rfl rfl)
theorem dL_law_1943 : decode cL_law 1943 = .ok (.ifCond .eq 5, 3) := dk_153 0 5 (dk_at dksL_law_77 19 rfl rfl)
theorem dL_law_1946 : decode cL_law 1946 = .ok (.iconst 0, 1) := dk_3 (dk_at dksL_law_77 22 rfl rfl)
theorem dL_law_1947 : decode cL_law 1947 = .ok (.ireturn, 1) := dk_172 (dk_at dksL_law_77 23 rfl rfl)
theorem dL_law_1948 : decode cL_law 1948 = .ok (.goto 392, 3) := dk_167 1 136 (dk_at dksL_law_78 0 rfl rfl)
theorem dL_law_1951 : decode cL_law 1951 = .ok (.aload_n 1, 1) := dk_43 (dk_at dksL_law_78 3 rfl rfl)
theorem dL_law_1952 : decode cL_law 1952 = .ok (.aload_n 0, 1) := dk_42 (dk_at dksL_law_78 4 rfl rfl)
theorem dL_law_1953 : decode cL_law 1953 = .ok (.iload 5, 2) := dk_21 5 (dk_at dksL_law_78 5 rfl rfl)
theorem dL_law_1955 : decode cL_law 1955 = .ok (.iconst 1, 1) := dk_4 (dk_at dksL_law_78 7 rfl rfl)
theorem dL_law_1956 : decode cL_law 1956 = .ok (.iadd, 1) := dk_96 (dk_at dksL_law_78 8 rfl rfl)
theorem dL_law_1957 : decode cL_law 1957 = .ok (.iaload, 1) := dk_46 (dk_at dksL_law_78 9 rfl rfl)
theorem dL_law_1958 : decode cL_law 1958 = .ok (.aload_n 3, 1) := dk_45 (dk_at dksL_law_78 10 rfl rfl)
theorem dL_law_1959 : decode cL_law 1959 = .ok (.invokestatic 235, 3) := dk_184 0 235 (dk_at dksL_law_78 11 rfl rfl)
theorem dL_law_1962 : decode cL_law 1962 = .ok (.istore 6, 2) := dk_54 6 (dk_at dksL_law_78 14 rfl rfl)
theorem dL_law_1964 : decode cL_law 1964 = .ok (.aload_n 2, 1) := dk_44 (dk_at dksL_law_78 16 rfl rfl)
theorem dL_law_1965 : decode cL_law 1965 = .ok (.aload_n 0, 1) := dk_42 (dk_at dksL_law_78 17 rfl rfl)
theorem dL_law_1966 : decode cL_law 1966 = .ok (.iload 5, 2) := dk_21 5 (dk_at dksL_law_78 18 rfl rfl)
theorem dL_law_1968 : decode cL_law 1968 = .ok (.iconst 1, 1) := dk_4 (dk_at dksL_law_78 20 rfl rfl)
theorem dL_law_1969 : decode cL_law 1969 = .ok (.iadd, 1) := dk_96 (dk_at dksL_law_78 21 rfl rfl)
theorem dL_law_1970 : decode cL_law 1970 = .ok (.iaload, 1) := dk_46 (dk_at dksL_law_78 22 rfl rfl)
theorem dL_law_1971 : decode cL_law 1971 = .ok (.invokevirtual 237, 3) := dk_182 0 237 (dk_at dksL_law_79 0 rfl rfl)
theorem dL_law_1974 : decode cL_law 1974 = .ok (.istore 7, 2) := dk_54 7 (dk_at dksL_law_79 3 rfl rfl)
theorem dL_law_1976 : decode cL_law 1976 = .ok (.aload_n 2, 1) := dk_44 (dk_at dksL_law_79 5 rfl rfl)
theorem dL_law_1977 : decode cL_law 1977 = .ok (.invokevirtual 141, 3) := dk_182 0 141 (dk_at dksL_law_79 6 rfl rfl)
theorem dL_law_1980 : decode cL_law 1980 = .ok (.iload 6, 2) := dk_21 6 (dk_at dksL_law_79 9 rfl rfl)
theorem dL_law_1982 : decode cL_law 1982 = .ok (.if_icmp .eq 5, 3) := dk_159 0 5 (dk_at dksL_law_79 11 rfl rfl)
theorem dL_law_1985 : decode cL_law 1985 = .ok (.iconst 0, 1) := dk_3 (dk_at dksL_law_79 14 rfl rfl)
theorem dL_law_1986 : decode cL_law 1986 = .ok (.ireturn, 1) := dk_172 (dk_at dksL_law_79 15 rfl rfl)
theorem dL_law_1987 : decode cL_law 1987 = .ok (.iload 6, 2) := dk_21 6 (dk_at dksL_law_79 16 rfl rfl)
theorem dL_law_1989 : decode cL_law 1989 = .ok (.ifCond .ne 15, 3) := dk_154 0 15 (dk_at dksL_law_79 18 rfl rfl)
theorem dL_law_1992 : decode cL_law 1992 = .ok (.aload_n 3, 1) := dk_45 (dk_at dksL_law_79 21 rfl rfl)
theorem dL_law_1993 : decode cL_law 1993 = .ok (.iconst 0, 1) := dk_3 (dk_at dksL_law_79 22 rfl rfl)
theorem dL_law_1994 : decode cL_law 1994 = .ok (.laload, 1) := dk_47 (dk_at dksL_law_79 23 rfl rfl)
theorem dL_law_1995 : decode cL_law 1995 = .ok (.iload 7, 2) := dk_21 7 (dk_at dksL_law_80 0 rfl rfl)
theorem dL_law_1997 : decode cL_law 1997 = .ok (.i2l, 1) := dk_133 (dk_at dksL_law_80 2 rfl rfl)
theorem dL_law_1998 : decode cL_law 1998 = .ok (.lcmp, 1) := dk_148 (dk_at dksL_law_80 3 rfl rfl)
theorem dL_law_1999 : decode cL_law 1999 = .ok (.ifCond .eq 5, 3) := dk_153 0 5 (dk_at dksL_law_80 4 rfl rfl)
theorem dL_law_2002 : decode cL_law 2002 = .ok (.iconst 0, 1) := dk_3 (dk_at dksL_law_80 7 rfl rfl)
theorem dL_law_2003 : decode cL_law 2003 = .ok (.ireturn, 1) := dk_172 (dk_at dksL_law_80 8 rfl rfl)
theorem dL_law_2004 : decode cL_law 2004 = .ok (.goto 336, 3) := dk_167 1 80 (dk_at dksL_law_80 9 rfl rfl)
theorem dL_law_2007 : decode cL_law 2007 = .ok (.aload_n 1, 1) := dk_43 (dk_at dksL_law_80 12 rfl rfl)
theorem dL_law_2008 : decode cL_law 2008 = .ok (.aload_n 0, 1) := dk_42 (dk_at dksL_law_80 13 rfl rfl)
theorem dL_law_2009 : decode cL_law 2009 = .ok (.iload 5, 2) := dk_21 5 (dk_at dksL_law_80 14 rfl rfl)
theorem dL_law_2011 : decode cL_law 2011 = .ok (.iconst 1, 1) := dk_4 (dk_at dksL_law_80 16 rfl rfl)
theorem dL_law_2012 : decode cL_law 2012 = .ok (.iadd, 1) := dk_96 (dk_at dksL_law_80 17 rfl rfl)
theorem dL_law_2013 : decode cL_law 2013 = .ok (.iaload, 1) := dk_46 (dk_at dksL_law_80 18 rfl rfl)
theorem dL_law_2014 : decode cL_law 2014 = .ok (.aload_n 0, 1) := dk_42 (dk_at dksL_law_80 19 rfl rfl)
theorem dL_law_2015 : decode cL_law 2015 = .ok (.iload 5, 2) := dk_21 5 (dk_at dksL_law_80 20 rfl rfl)
theorem dL_law_2017 : decode cL_law 2017 = .ok (.iconst 2, 1) := dk_5 (dk_at dksL_law_80 22 rfl rfl)
theorem dL_law_2018 : decode cL_law 2018 = .ok (.iadd, 1) := dk_96 (dk_at dksL_law_80 23 rfl rfl)
theorem dL_law_2019 : decode cL_law 2019 = .ok (.iaload, 1) := dk_46 (dk_at dksL_law_81 0 rfl rfl)
theorem dL_law_2020 : decode cL_law 2020 = .ok (.aload_n 3, 1) := dk_45 (dk_at dksL_law_81 1 rfl rfl)
theorem dL_law_2021 : decode cL_law 2021 = .ok (.invokestatic 238, 3) := dk_184 0 238 (dk_at dksL_law_81 2 rfl rfl)
theorem dL_law_2024 : decode cL_law 2024 = .ok (.istore 6, 2) := dk_54 6 (dk_at dksL_law_81 5 rfl rfl)
theorem dL_law_2026 : decode cL_law 2026 = .ok (.aload_n 2, 1) := dk_44 (dk_at dksL_law_81 7 rfl rfl)
theorem dL_law_2027 : decode cL_law 2027 = .ok (.aload_n 0, 1) := dk_42 (dk_at dksL_law_81 8 rfl rfl)
theorem dL_law_2028 : decode cL_law 2028 = .ok (.iload 5, 2) := dk_21 5 (dk_at dksL_law_81 9 rfl rfl)
theorem dL_law_2030 : decode cL_law 2030 = .ok (.iconst 1, 1) := dk_4 (dk_at dksL_law_81 11 rfl rfl)
theorem dL_law_2031 : decode cL_law 2031 = .ok (.iadd, 1) := dk_96 (dk_at dksL_law_81 12 rfl rfl)
theorem dL_law_2032 : decode cL_law 2032 = .ok (.iaload, 1) := dk_46 (dk_at dksL_law_81 13 rfl rfl)
theorem dL_law_2033 : decode cL_law 2033 = .ok (.aload_n 0, 1) := dk_42 (dk_at dksL_law_81 14 rfl rfl)
theorem dL_law_2034 : decode cL_law 2034 = .ok (.iload 5, 2) := dk_21 5 (dk_at dksL_law_81 15 rfl rfl)
theorem dL_law_2036 : decode cL_law 2036 = .ok (.iconst 2, 1) := dk_5 (dk_at dksL_law_81 17 rfl rfl)
theorem dL_law_2037 : decode cL_law 2037 = .ok (.iadd, 1) := dk_96 (dk_at dksL_law_81 18 rfl rfl)
theorem dL_law_2038 : decode cL_law 2038 = .ok (.iaload, 1) := dk_46 (dk_at dksL_law_81 19 rfl rfl)
theorem dL_law_2039 : decode cL_law 2039 = .ok (.invokevirtual 240, 3) := dk_182 0 240 (dk_at dksL_law_81 20 rfl rfl)
theorem dL_law_2042 : decode cL_law 2042 = .ok (.istore 7, 2) := dk_54 7 (dk_at dksL_law_82 0 rfl rfl)
theorem dL_law_2044 : decode cL_law 2044 = .ok (.aload_n 2, 1) := dk_44 (dk_at dksL_law_82 2 rfl rfl)
theorem dL_law_2045 : decode cL_law 2045 = .ok (.invokevirtual 141, 3) := dk_182 0 141 (dk_at dksL_law_82 3 rfl rfl)
theorem dL_law_2048 : decode cL_law 2048 = .ok (.iload 6, 2) := dk_21 6 (dk_at dksL_law_82 6 rfl rfl)
theorem dL_law_2050 : decode cL_law 2050 = .ok (.if_icmp .eq 5, 3) := dk_159 0 5 (dk_at dksL_law_82 8 rfl rfl)
theorem dL_law_2053 : decode cL_law 2053 = .ok (.iconst 0, 1) := dk_3 (dk_at dksL_law_82 11 rfl rfl)
theorem dL_law_2054 : decode cL_law 2054 = .ok (.ireturn, 1) := dk_172 (dk_at dksL_law_82 12 rfl rfl)
theorem dL_law_2055 : decode cL_law 2055 = .ok (.iload 6, 2) := dk_21 6 (dk_at dksL_law_82 13 rfl rfl)
theorem dL_law_2057 : decode cL_law 2057 = .ok (.ifCond .ne 15, 3) := dk_154 0 15 (dk_at dksL_law_82 15 rfl rfl)
theorem dL_law_2060 : decode cL_law 2060 = .ok (.aload_n 3, 1) := dk_45 (dk_at dksL_law_82 18 rfl rfl)
theorem dL_law_2061 : decode cL_law 2061 = .ok (.iconst 0, 1) := dk_3 (dk_at dksL_law_82 19 rfl rfl)
theorem dL_law_2062 : decode cL_law 2062 = .ok (.laload, 1) := dk_47 (dk_at dksL_law_82 20 rfl rfl)
theorem dL_law_2063 : decode cL_law 2063 = .ok (.iload 7, 2) := dk_21 7 (dk_at dksL_law_82 21 rfl rfl)
theorem dL_law_2065 : decode cL_law 2065 = .ok (.i2l, 1) := dk_133 (dk_at dksL_law_82 23 rfl rfl)
theorem dL_law_2066 : decode cL_law 2066 = .ok (.lcmp, 1) := dk_148 (dk_at dksL_law_83 0 rfl rfl)
theorem dL_law_2067 : decode cL_law 2067 = .ok (.ifCond .eq 5, 3) := dk_153 0 5 (dk_at dksL_law_83 1 rfl rfl)
theorem dL_law_2070 : decode cL_law 2070 = .ok (.iconst 0, 1) := dk_3 (dk_at dksL_law_83 4 rfl rfl)
theorem dL_law_2071 : decode cL_law 2071 = .ok (.ireturn, 1) := dk_172 (dk_at dksL_law_83 5 rfl rfl)
theorem dL_law_2072 : decode cL_law 2072 = .ok (.goto 268, 3) := dk_167 1 12 (dk_at dksL_law_83 6 rfl rfl)
theorem dL_law_2075 : decode cL_law 2075 = .ok (.aload_n 1, 1) := dk_43 (dk_at dksL_law_83 9 rfl rfl)
theorem dL_law_2076 : decode cL_law 2076 = .ok (.aload_n 0, 1) := dk_42 (dk_at dksL_law_83 10 rfl rfl)
theorem dL_law_2077 : decode cL_law 2077 = .ok (.iload 5, 2) := dk_21 5 (dk_at dksL_law_83 11 rfl rfl)
theorem dL_law_2079 : decode cL_law 2079 = .ok (.iconst 1, 1) := dk_4 (dk_at dksL_law_83 13 rfl rfl)
theorem dL_law_2080 : decode cL_law 2080 = .ok (.iadd, 1) := dk_96 (dk_at dksL_law_83 14 rfl rfl)
theorem dL_law_2081 : decode cL_law 2081 = .ok (.iaload, 1) := dk_46 (dk_at dksL_law_83 15 rfl rfl)
theorem dL_law_2082 : decode cL_law 2082 = .ok (.aload_n 0, 1) := dk_42 (dk_at dksL_law_83 16 rfl rfl)
theorem dL_law_2083 : decode cL_law 2083 = .ok (.iload 5, 2) := dk_21 5 (dk_at dksL_law_83 17 rfl rfl)
theorem dL_law_2085 : decode cL_law 2085 = .ok (.iconst 2, 1) := dk_5 (dk_at dksL_law_83 19 rfl rfl)
theorem dL_law_2086 : decode cL_law 2086 = .ok (.iadd, 1) := dk_96 (dk_at dksL_law_83 20 rfl rfl)
theorem dL_law_2087 : decode cL_law 2087 = .ok (.iaload, 1) := dk_46 (dk_at dksL_law_83 21 rfl rfl)
theorem dL_law_2088 : decode cL_law 2088 = .ok (.aload_n 0, 1) := dk_42 (dk_at dksL_law_83 22 rfl rfl)
theorem dL_law_2089 : decode cL_law 2089 = .ok (.iload 5, 2) := dk_21 5 (dk_at dksL_law_84 0 rfl rfl)
theorem dL_law_2091 : decode cL_law 2091 = .ok (.iconst 3, 1) := dk_6 (dk_at dksL_law_84 2 rfl rfl)
theorem dL_law_2092 : decode cL_law 2092 = .ok (.iadd, 1) := dk_96 (dk_at dksL_law_84 3 rfl rfl)
theorem dL_law_2093 : decode cL_law 2093 = .ok (.iaload, 1) := dk_46 (dk_at dksL_law_84 4 rfl rfl)
theorem dL_law_2094 : decode cL_law 2094 = .ok (.ifCond .eq 7, 3) := dk_153 0 7 (dk_at dksL_law_84 5 rfl rfl)
theorem dL_law_2097 : decode cL_law 2097 = .ok (.iconst 1, 1) := dk_4 (dk_at dksL_law_84 8 rfl rfl)
theorem dL_law_2098 : decode cL_law 2098 = .ok (.goto 4, 3) := dk_167 0 4 (dk_at dksL_law_84 9 rfl rfl)
theorem dL_law_2101 : decode cL_law 2101 = .ok (.iconst 0, 1) := dk_3 (dk_at dksL_law_84 12 rfl rfl)
theorem dL_law_2102 : decode cL_law 2102 = .ok (.aload_n 3, 1) := dk_45 (dk_at dksL_law_84 13 rfl rfl)
theorem dL_law_2103 : decode cL_law 2103 = .ok (.invokestatic 241, 3) := dk_184 0 241 (dk_at dksL_law_84 14 rfl rfl)
theorem dL_law_2106 : decode cL_law 2106 = .ok (.istore 6, 2) := dk_54 6 (dk_at dksL_law_84 17 rfl rfl)
theorem dL_law_2108 : decode cL_law 2108 = .ok (.aload_n 2, 1) := dk_44 (dk_at dksL_law_84 19 rfl rfl)
theorem dL_law_2109 : decode cL_law 2109 = .ok (.aload_n 0, 1) := dk_42 (dk_at dksL_law_84 20 rfl rfl)
theorem dL_law_2110 : decode cL_law 2110 = .ok (.iload 5, 2) := dk_21 5 (dk_at dksL_law_84 21 rfl rfl)
theorem dL_law_2112 : decode cL_law 2112 = .ok (.iconst 1, 1) := dk_4 (dk_at dksL_law_84 23 rfl rfl)
theorem dL_law_2113 : decode cL_law 2113 = .ok (.iadd, 1) := dk_96 (dk_at dksL_law_85 0 rfl rfl)
theorem dL_law_2114 : decode cL_law 2114 = .ok (.iaload, 1) := dk_46 (dk_at dksL_law_85 1 rfl rfl)
theorem dL_law_2115 : decode cL_law 2115 = .ok (.aload_n 0, 1) := dk_42 (dk_at dksL_law_85 2 rfl rfl)
theorem dL_law_2116 : decode cL_law 2116 = .ok (.iload 5, 2) := dk_21 5 (dk_at dksL_law_85 3 rfl rfl)
theorem dL_law_2118 : decode cL_law 2118 = .ok (.iconst 2, 1) := dk_5 (dk_at dksL_law_85 5 rfl rfl)
theorem dL_law_2119 : decode cL_law 2119 = .ok (.iadd, 1) := dk_96 (dk_at dksL_law_85 6 rfl rfl)
theorem dL_law_2120 : decode cL_law 2120 = .ok (.iaload, 1) := dk_46 (dk_at dksL_law_85 7 rfl rfl)
theorem dL_law_2121 : decode cL_law 2121 = .ok (.aload_n 0, 1) := dk_42 (dk_at dksL_law_85 8 rfl rfl)
theorem dL_law_2122 : decode cL_law 2122 = .ok (.iload 5, 2) := dk_21 5 (dk_at dksL_law_85 9 rfl rfl)
theorem dL_law_2124 : decode cL_law 2124 = .ok (.iconst 3, 1) := dk_6 (dk_at dksL_law_85 11 rfl rfl)
theorem dL_law_2125 : decode cL_law 2125 = .ok (.iadd, 1) := dk_96 (dk_at dksL_law_85 12 rfl rfl)
theorem dL_law_2126 : decode cL_law 2126 = .ok (.iaload, 1) := dk_46 (dk_at dksL_law_85 13 rfl rfl)
theorem dL_law_2127 : decode cL_law 2127 = .ok (.ifCond .eq 7, 3) := dk_153 0 7 (dk_at dksL_law_85 14 rfl rfl)
theorem dL_law_2130 : decode cL_law 2130 = .ok (.iconst 1, 1) := dk_4 (dk_at dksL_law_85 17 rfl rfl)
theorem dL_law_2131 : decode cL_law 2131 = .ok (.goto 4, 3) := dk_167 0 4 (dk_at dksL_law_85 18 rfl rfl)
theorem dL_law_2134 : decode cL_law 2134 = .ok (.iconst 0, 1) := dk_3 (dk_at dksL_law_85 21 rfl rfl)
theorem dL_law_2135 : decode cL_law 2135 = .ok (.invokevirtual 244, 3) := dk_182 0 244 (dk_at dksL_law_86 0 rfl rfl)
theorem dL_law_2138 : decode cL_law 2138 = .ok (.istore 7, 2) := dk_54 7 (dk_at dksL_law_86 3 rfl rfl)
theorem dL_law_2140 : decode cL_law 2140 = .ok (.aload_n 2, 1) := dk_44 (dk_at dksL_law_86 5 rfl rfl)
theorem dL_law_2141 : decode cL_law 2141 = .ok (.invokevirtual 141, 3) := dk_182 0 141 (dk_at dksL_law_86 6 rfl rfl)
theorem dL_law_2144 : decode cL_law 2144 = .ok (.iload 6, 2) := dk_21 6 (dk_at dksL_law_86 9 rfl rfl)
theorem dL_law_2146 : decode cL_law 2146 = .ok (.if_icmp .eq 5, 3) := dk_159 0 5 (dk_at dksL_law_86 11 rfl rfl)
theorem dL_law_2149 : decode cL_law 2149 = .ok (.iconst 0, 1) := dk_3 (dk_at dksL_law_86 14 rfl rfl)
theorem dL_law_2150 : decode cL_law 2150 = .ok (.ireturn, 1) := dk_172 (dk_at dksL_law_86 15 rfl rfl)
theorem dL_law_2151 : decode cL_law 2151 = .ok (.iload 6, 2) := dk_21 6 (dk_at dksL_law_86 16 rfl rfl)
theorem dL_law_2153 : decode cL_law 2153 = .ok (.ifCond .ne 15, 3) := dk_154 0 15 (dk_at dksL_law_86 18 rfl rfl)
theorem dL_law_2156 : decode cL_law 2156 = .ok (.aload_n 3, 1) := dk_45 (dk_at dksL_law_86 21 rfl rfl)
theorem dL_law_2157 : decode cL_law 2157 = .ok (.iconst 0, 1) := dk_3 (dk_at dksL_law_86 22 rfl rfl)
theorem dL_law_2158 : decode cL_law 2158 = .ok (.laload, 1) := dk_47 (dk_at dksL_law_86 23 rfl rfl)
theorem dL_law_2159 : decode cL_law 2159 = .ok (.iload 7, 2) := dk_21 7 (dk_at dksL_law_87 0 rfl rfl)
theorem dL_law_2161 : decode cL_law 2161 = .ok (.i2l, 1) := dk_133 (dk_at dksL_law_87 2 rfl rfl)
theorem dL_law_2162 : decode cL_law 2162 = .ok (.lcmp, 1) := dk_148 (dk_at dksL_law_87 3 rfl rfl)
theorem dL_law_2163 : decode cL_law 2163 = .ok (.ifCond .eq 5, 3) := dk_153 0 5 (dk_at dksL_law_87 4 rfl rfl)
theorem dL_law_2166 : decode cL_law 2166 = .ok (.iconst 0, 1) := dk_3 (dk_at dksL_law_87 7 rfl rfl)
theorem dL_law_2167 : decode cL_law 2167 = .ok (.ireturn, 1) := dk_172 (dk_at dksL_law_87 8 rfl rfl)
theorem dL_law_2168 : decode cL_law 2168 = .ok (.goto 172, 3) := dk_167 0 172 (dk_at dksL_law_87 9 rfl rfl)
theorem dL_law_2171 : decode cL_law 2171 = .ok (.aload_n 1, 1) := dk_43 (dk_at dksL_law_87 12 rfl rfl)
theorem dL_law_2172 : decode cL_law 2172 = .ok (.aload_n 0, 1) := dk_42 (dk_at dksL_law_87 13 rfl rfl)
theorem dL_law_2173 : decode cL_law 2173 = .ok (.iload 5, 2) := dk_21 5 (dk_at dksL_law_87 14 rfl rfl)
theorem dL_law_2175 : decode cL_law 2175 = .ok (.iconst 1, 1) := dk_4 (dk_at dksL_law_87 16 rfl rfl)
theorem dL_law_2176 : decode cL_law 2176 = .ok (.iadd, 1) := dk_96 (dk_at dksL_law_87 17 rfl rfl)
theorem dL_law_2177 : decode cL_law 2177 = .ok (.iaload, 1) := dk_46 (dk_at dksL_law_87 18 rfl rfl)
theorem dL_law_2178 : decode cL_law 2178 = .ok (.aload_n 0, 1) := dk_42 (dk_at dksL_law_87 19 rfl rfl)
theorem dL_law_2179 : decode cL_law 2179 = .ok (.iload 5, 2) := dk_21 5 (dk_at dksL_law_87 20 rfl rfl)
theorem dL_law_2181 : decode cL_law 2181 = .ok (.iconst 2, 1) := dk_5 (dk_at dksL_law_87 22 rfl rfl)
theorem dL_law_2182 : decode cL_law 2182 = .ok (.iadd, 1) := dk_96 (dk_at dksL_law_87 23 rfl rfl)
theorem dL_law_2183 : decode cL_law 2183 = .ok (.iaload, 1) := dk_46 (dk_at dksL_law_88 0 rfl rfl)
theorem dL_law_2184 : decode cL_law 2184 = .ok (.aload_n 3, 1) := dk_45 (dk_at dksL_law_88 1 rfl rfl)
theorem dL_law_2185 : decode cL_law 2185 = .ok (.invokestatic 245, 3) := dk_184 0 245 (dk_at dksL_law_88 2 rfl rfl)
theorem dL_law_2188 : decode cL_law 2188 = .ok (.istore 6, 2) := dk_54 6 (dk_at dksL_law_88 5 rfl rfl)
theorem dL_law_2190 : decode cL_law 2190 = .ok (.aload_n 2, 1) := dk_44 (dk_at dksL_law_88 7 rfl rfl)
theorem dL_law_2191 : decode cL_law 2191 = .ok (.aload_n 0, 1) := dk_42 (dk_at dksL_law_88 8 rfl rfl)
theorem dL_law_2192 : decode cL_law 2192 = .ok (.iload 5, 2) := dk_21 5 (dk_at dksL_law_88 9 rfl rfl)
theorem dL_law_2194 : decode cL_law 2194 = .ok (.iconst 1, 1) := dk_4 (dk_at dksL_law_88 11 rfl rfl)
theorem dL_law_2195 : decode cL_law 2195 = .ok (.iadd, 1) := dk_96 (dk_at dksL_law_88 12 rfl rfl)
theorem dL_law_2196 : decode cL_law 2196 = .ok (.iaload, 1) := dk_46 (dk_at dksL_law_88 13 rfl rfl)
theorem dL_law_2197 : decode cL_law 2197 = .ok (.aload_n 0, 1) := dk_42 (dk_at dksL_law_88 14 rfl rfl)
theorem dL_law_2198 : decode cL_law 2198 = .ok (.iload 5, 2) := dk_21 5 (dk_at dksL_law_88 15 rfl rfl)
theorem dL_law_2200 : decode cL_law 2200 = .ok (.iconst 2, 1) := dk_5 (dk_at dksL_law_88 17 rfl rfl)
theorem dL_law_2201 : decode cL_law 2201 = .ok (.iadd, 1) := dk_96 (dk_at dksL_law_88 18 rfl rfl)
theorem dL_law_2202 : decode cL_law 2202 = .ok (.iaload, 1) := dk_46 (dk_at dksL_law_88 19 rfl rfl)
theorem dL_law_2203 : decode cL_law 2203 = .ok (.invokevirtual 247, 3) := dk_182 0 247 (dk_at dksL_law_88 20 rfl rfl)
theorem dL_law_2206 : decode cL_law 2206 = .ok (.istore 7, 2) := dk_54 7 (dk_at dksL_law_89 0 rfl rfl)
theorem dL_law_2208 : decode cL_law 2208 = .ok (.aload_n 2, 1) := dk_44 (dk_at dksL_law_89 2 rfl rfl)
theorem dL_law_2209 : decode cL_law 2209 = .ok (.invokevirtual 141, 3) := dk_182 0 141 (dk_at dksL_law_89 3 rfl rfl)
theorem dL_law_2212 : decode cL_law 2212 = .ok (.iload 6, 2) := dk_21 6 (dk_at dksL_law_89 6 rfl rfl)
theorem dL_law_2214 : decode cL_law 2214 = .ok (.if_icmp .eq 5, 3) := dk_159 0 5 (dk_at dksL_law_89 8 rfl rfl)
theorem dL_law_2217 : decode cL_law 2217 = .ok (.iconst 0, 1) := dk_3 (dk_at dksL_law_89 11 rfl rfl)
theorem dL_law_2218 : decode cL_law 2218 = .ok (.ireturn, 1) := dk_172 (dk_at dksL_law_89 12 rfl rfl)
theorem dL_law_2219 : decode cL_law 2219 = .ok (.iload 6, 2) := dk_21 6 (dk_at dksL_law_89 13 rfl rfl)
theorem dL_law_2221 : decode cL_law 2221 = .ok (.ifCond .ne 15, 3) := dk_154 0 15 (dk_at dksL_law_89 15 rfl rfl)
theorem dL_law_2224 : decode cL_law 2224 = .ok (.aload_n 3, 1) := dk_45 (dk_at dksL_law_89 18 rfl rfl)
theorem dL_law_2225 : decode cL_law 2225 = .ok (.iconst 0, 1) := dk_3 (dk_at dksL_law_89 19 rfl rfl)
theorem dL_law_2226 : decode cL_law 2226 = .ok (.laload, 1) := dk_47 (dk_at dksL_law_89 20 rfl rfl)
theorem dL_law_2227 : decode cL_law 2227 = .ok (.iload 7, 2) := dk_21 7 (dk_at dksL_law_89 21 rfl rfl)
theorem dL_law_2229 : decode cL_law 2229 = .ok (.i2l, 1) := dk_133 (dk_at dksL_law_89 23 rfl rfl)
theorem dL_law_2230 : decode cL_law 2230 = .ok (.lcmp, 1) := dk_148 (dk_at dksL_law_90 0 rfl rfl)
theorem dL_law_2231 : decode cL_law 2231 = .ok (.ifCond .eq 5, 3) := dk_153 0 5 (dk_at dksL_law_90 1 rfl rfl)
theorem dL_law_2234 : decode cL_law 2234 = .ok (.iconst 0, 1) := dk_3 (dk_at dksL_law_90 4 rfl rfl)
theorem dL_law_2235 : decode cL_law 2235 = .ok (.ireturn, 1) := dk_172 (dk_at dksL_law_90 5 rfl rfl)
theorem dL_law_2236 : decode cL_law 2236 = .ok (.goto 104, 3) := dk_167 0 104 (dk_at dksL_law_90 6 rfl rfl)
theorem dL_law_2239 : decode cL_law 2239 = .ok (.aload_n 1, 1) := dk_43 (dk_at dksL_law_90 9 rfl rfl)
theorem dL_law_2240 : decode cL_law 2240 = .ok (.aload_n 3, 1) := dk_45 (dk_at dksL_law_90 10 rfl rfl)
theorem dL_law_2241 : decode cL_law 2241 = .ok (.invokestatic 248, 3) := dk_184 0 248 (dk_at dksL_law_90 11 rfl rfl)
theorem dL_law_2244 : decode cL_law 2244 = .ok (.istore 6, 2) := dk_54 6 (dk_at dksL_law_90 14 rfl rfl)
theorem dL_law_2246 : decode cL_law 2246 = .ok (.aload_n 2, 1) := dk_44 (dk_at dksL_law_90 16 rfl rfl)
theorem dL_law_2247 : decode cL_law 2247 = .ok (.invokevirtual 250, 3) := dk_182 0 250 (dk_at dksL_law_90 17 rfl rfl)
theorem dL_law_2250 : decode cL_law 2250 = .ok (.istore 7, 2) := dk_54 7 (dk_at dksL_law_90 20 rfl rfl)
theorem dL_law_2252 : decode cL_law 2252 = .ok (.aload_n 2, 1) := dk_44 (dk_at dksL_law_90 22 rfl rfl)
theorem dL_law_2253 : decode cL_law 2253 = .ok (.invokevirtual 141, 3) := dk_182 0 141 (dk_at dksL_law_91 0 rfl rfl)
theorem dL_law_2256 : decode cL_law 2256 = .ok (.iload 6, 2) := dk_21 6 (dk_at dksL_law_91 3 rfl rfl)
theorem dL_law_2258 : decode cL_law 2258 = .ok (.if_icmp .eq 5, 3) := dk_159 0 5 (dk_at dksL_law_91 5 rfl rfl)
theorem dL_law_2261 : decode cL_law 2261 = .ok (.iconst 0, 1) := dk_3 (dk_at dksL_law_91 8 rfl rfl)
theorem dL_law_2262 : decode cL_law 2262 = .ok (.ireturn, 1) := dk_172 (dk_at dksL_law_91 9 rfl rfl)
theorem dL_law_2263 : decode cL_law 2263 = .ok (.iload 6, 2) := dk_21 6 (dk_at dksL_law_91 10 rfl rfl)
theorem dL_law_2265 : decode cL_law 2265 = .ok (.ifCond .ne 15, 3) := dk_154 0 15 (dk_at dksL_law_91 12 rfl rfl)
theorem dL_law_2268 : decode cL_law 2268 = .ok (.aload_n 3, 1) := dk_45 (dk_at dksL_law_91 15 rfl rfl)
theorem dL_law_2269 : decode cL_law 2269 = .ok (.iconst 0, 1) := dk_3 (dk_at dksL_law_91 16 rfl rfl)
theorem dL_law_2270 : decode cL_law 2270 = .ok (.laload, 1) := dk_47 (dk_at dksL_law_91 17 rfl rfl)
theorem dL_law_2271 : decode cL_law 2271 = .ok (.iload 7, 2) := dk_21 7 (dk_at dksL_law_91 18 rfl rfl)
theorem dL_law_2273 : decode cL_law 2273 = .ok (.i2l, 1) := dk_133 (dk_at dksL_law_91 20 rfl rfl)
theorem dL_law_2274 : decode cL_law 2274 = .ok (.lcmp, 1) := dk_148 (dk_at dksL_law_91 21 rfl rfl)
theorem dL_law_2275 : decode cL_law 2275 = .ok (.ifCond .eq 5, 3) := dk_153 0 5 (dk_at dksL_law_92 0 rfl rfl)
theorem dL_law_2278 : decode cL_law 2278 = .ok (.iconst 0, 1) := dk_3 (dk_at dksL_law_92 3 rfl rfl)
theorem dL_law_2279 : decode cL_law 2279 = .ok (.ireturn, 1) := dk_172 (dk_at dksL_law_92 4 rfl rfl)
theorem dL_law_2280 : decode cL_law 2280 = .ok (.goto 60, 3) := dk_167 0 60 (dk_at dksL_law_92 5 rfl rfl)
theorem dL_law_2283 : decode cL_law 2283 = .ok (.aload_n 1, 1) := dk_43 (dk_at dksL_law_92 8 rfl rfl)
theorem dL_law_2284 : decode cL_law 2284 = .ok (.invokevirtual 251, 3) := dk_182 0 251 (dk_at dksL_law_92 9 rfl rfl)
theorem dL_law_2287 : decode cL_law 2287 = .ok (.aload_n 2, 1) := dk_44 (dk_at dksL_law_92 12 rfl rfl)
theorem dL_law_2288 : decode cL_law 2288 = .ok (.invokevirtual 254, 3) := dk_182 0 254 (dk_at dksL_law_92 13 rfl rfl)
theorem dL_law_2291 : decode cL_law 2291 = .ok (.if_icmp .eq 49, 3) := dk_159 0 49 (dk_at dksL_law_92 16 rfl rfl)
theorem dL_law_2294 : decode cL_law 2294 = .ok (.iconst 0, 1) := dk_3 (dk_at dksL_law_92 19 rfl rfl)
theorem dL_law_2295 : decode cL_law 2295 = .ok (.ireturn, 1) := dk_172 (dk_at dksL_law_92 20 rfl rfl)
theorem dL_law_2296 : decode cL_law 2296 = .ok (.aload_n 1, 1) := dk_43 (dk_at dksL_law_92 21 rfl rfl)
theorem dL_law_2297 : decode cL_law 2297 = .ok (.aload_n 3, 1) := dk_45 (dk_at dksL_law_92 22 rfl rfl)
theorem dL_law_2298 : decode cL_law 2298 = .ok (.invokestatic 255, 3) := dk_184 0 255 (dk_at dksL_law_93 0 rfl rfl)
theorem dL_law_2301 : decode cL_law 2301 = .ok (.istore 6, 2) := dk_54 6 (dk_at dksL_law_93 3 rfl rfl)
theorem dL_law_2303 : decode cL_law 2303 = .ok (.aload_n 2, 1) := dk_44 (dk_at dksL_law_93 5 rfl rfl)
theorem dL_law_2304 : decode cL_law 2304 = .ok (.invokevirtual 257, 3) := dk_182 1 1 (dk_at dksL_law_93 6 rfl rfl)
theorem dL_law_2307 : decode cL_law 2307 = .ok (.istore 7, 2) := dk_54 7 (dk_at dksL_law_93 9 rfl rfl)
theorem dL_law_2309 : decode cL_law 2309 = .ok (.aload_n 2, 1) := dk_44 (dk_at dksL_law_93 11 rfl rfl)
theorem dL_law_2310 : decode cL_law 2310 = .ok (.invokevirtual 141, 3) := dk_182 0 141 (dk_at dksL_law_93 12 rfl rfl)
theorem dL_law_2313 : decode cL_law 2313 = .ok (.iload 6, 2) := dk_21 6 (dk_at dksL_law_93 15 rfl rfl)
theorem dL_law_2315 : decode cL_law 2315 = .ok (.if_icmp .eq 5, 3) := dk_159 0 5 (dk_at dksL_law_93 17 rfl rfl)
theorem dL_law_2318 : decode cL_law 2318 = .ok (.iconst 0, 1) := dk_3 (dk_at dksL_law_93 20 rfl rfl)
theorem dL_law_2319 : decode cL_law 2319 = .ok (.ireturn, 1) := dk_172 (dk_at dksL_law_93 21 rfl rfl)
theorem dL_law_2320 : decode cL_law 2320 = .ok (.iload 6, 2) := dk_21 6 (dk_at dksL_law_93 22 rfl rfl)
theorem dL_law_2322 : decode cL_law 2322 = .ok (.ifCond .ne 15, 3) := dk_154 0 15 (dk_at dksL_law_94 0 rfl rfl)
theorem dL_law_2325 : decode cL_law 2325 = .ok (.aload_n 3, 1) := dk_45 (dk_at dksL_law_94 3 rfl rfl)
theorem dL_law_2326 : decode cL_law 2326 = .ok (.iconst 0, 1) := dk_3 (dk_at dksL_law_94 4 rfl rfl)
theorem dL_law_2327 : decode cL_law 2327 = .ok (.laload, 1) := dk_47 (dk_at dksL_law_94 5 rfl rfl)
theorem dL_law_2328 : decode cL_law 2328 = .ok (.iload 7, 2) := dk_21 7 (dk_at dksL_law_94 6 rfl rfl)
theorem dL_law_2330 : decode cL_law 2330 = .ok (.i2l, 1) := dk_133 (dk_at dksL_law_94 8 rfl rfl)
theorem dL_law_2331 : decode cL_law 2331 = .ok (.lcmp, 1) := dk_148 (dk_at dksL_law_94 9 rfl rfl)
theorem dL_law_2332 : decode cL_law 2332 = .ok (.ifCond .eq 5, 3) := dk_153 0 5 (dk_at dksL_law_94 10 rfl rfl)
theorem dL_law_2335 : decode cL_law 2335 = .ok (.iconst 0, 1) := dk_3 (dk_at dksL_law_94 13 rfl rfl)
theorem dL_law_2336 : decode cL_law 2336 = .ok (.ireturn, 1) := dk_172 (dk_at dksL_law_94 14 rfl rfl)
theorem dL_law_2337 : decode cL_law 2337 = .ok (.goto 3, 3) := dk_167 0 3 (dk_at dksL_law_94 15 rfl rfl)
theorem dL_law_2340 : decode cL_law 2340 = .ok (.iinc 5 4, 3) := dk_132 5 4 (dk_at dksL_law_94 18 rfl rfl)
theorem dL_law_2343 : decode cL_law 2343 = .ok (.goto (-2315), 3) := dk_167 246 245 (dk_at dksL_law_94 21 rfl rfl)
theorem dL_law_2346 : decode cL_law 2346 = .ok (.iconst 1, 1) := dk_4 (dk_at dksL_law_95 0 rfl rfl)
theorem dL_law_2347 : decode cL_law 2347 = .ok (.ireturn, 1) := dk_172 (dk_at dksL_law_95 1 rfl rfl)

