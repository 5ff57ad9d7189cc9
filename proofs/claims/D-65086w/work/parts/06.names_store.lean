/-! NandHouse$Store -/
set_option maxRecDepth 100000
def RX5 : String := "NandHouse$Store"
def TX5 : u_T := fun k => match k with
  | 0 => ("NandHouse$Store", "blocks", "LNandHouse$Blocks;", true)
  | 1 => ("NandHouse$Store", "space", "LNandHouse$Space;", true)
  | 2 => ("NandHouse$Store", "index", "LNandHouse$Index;", true)
  | 3 => ("NandHouse$Store", "journal", "LNandHouse$Writer;", true)
  | 4 => ("NandHouse$Store", "mover", "LNandHouse$Writer;", true)
  | 5 => ("NandHouse$Store", "knots", "LNandHouse$Writer;", true)
  | 6 => ("NandHouse$Store", "node", "LNandHouse$Row;", true)
  | 7 => ("NandHouse$Store", "made", "LNandHouse$Row;", true)
  | 8 => ("NandHouse$Store", "sheet", "LNandHouse$Row;", true)
  | 9 => ("NandHouse$Store", "page", "[B", true)
  | 10 => ("NandHouse$Store", "serial", "J", false)
  | 11 => ("NandHouse$Store", "next", "I", false)
  | 12 => ("NandHouse$Store", "ends", "[I", true)
  | 13 => ("NandHouse$Store", "waits", "I", false)
  | 14 => ("NandHouse$Store", "groupNumber", "I", false)
  | 15 => ("NandHouse$Store", "groupPlace", "I", false)
  | 16 => ("NandHouse$Store", "log", "I", false)
  | 17 => ("NandHouse$Store", "logged", "I", false)
  | 18 => ("NandHouse$Store", "buds", "[I", true)
  | 19 => ("NandHouse$Store", "budCount", "I", false)
  | 20 => ("NandHouse$Store", "commit", "I", false)
  | 21 => ("NandHouse$Store", "commits", "Z", false)
  | 22 => ("NandHouse$Store", "tableNumber", "I", false)
  | 23 => ("NandHouse$Store", "tablePlace", "I", false)
  | 24 => ("NandHouse$Store", "tableSize", "I", false)
  | 25 => ("NandHouse$Store", "orphans", "[I", true)
  | 26 => ("NandHouse$Store", "orphanCount", "I", false)
  | 27 => ("NandHouse$Store", "oldLog", "I", false)
  | 28 => ("NandHouse$Store", "order", "[LNandHouse$Knot;", true)
  | 29 => ("NandHouse$Store", "ordered", "I", false)
  | 30 => ("NandHouse$Store", "done", "I", false)
  | 31 => ("NandHouse$Store", "victim", "I", false)
  | 32 => ("NandHouse$Store", "victimPlace", "I", false)
  | 33 => ("NandHouse$Store", "collected", "Z", false)
  | 34 => ("NandHouse$Store", "whole", "I", true)
  | 35 => ("NandHouse$Store", "table", "I", true)
  | _ => ("NandHouse$Store", "again", "J", false)
def tyX5 : Nat → FieldType := fun k => match k with
  | 0 => .object "NandHouse$Blocks"
  | 1 => .object "NandHouse$Space"
  | 2 => .object "NandHouse$Index"
  | 3 => .object "NandHouse$Writer"
  | 4 => .object "NandHouse$Writer"
  | 5 => .object "NandHouse$Writer"
  | 6 => .object "NandHouse$Row"
  | 7 => .object "NandHouse$Row"
  | 8 => .object "NandHouse$Row"
  | 9 => .array .byte
  | 10 => .long
  | 11 => .int
  | 12 => .array .int
  | 13 => .int
  | 14 => .int
  | 15 => .int
  | 16 => .int
  | 17 => .int
  | 18 => .array .int
  | 19 => .int
  | 20 => .int
  | 21 => .boolean
  | 22 => .int
  | 23 => .int
  | 24 => .int
  | 25 => .array .int
  | 26 => .int
  | 27 => .int
  | 28 => .array (.object "NandHouse$Knot")
  | 29 => .int
  | 30 => .int
  | 31 => .int
  | 32 => .int
  | 33 => .boolean
  | 34 => .int
  | 35 => .int
  | _ => .long
abbrev wsX50 : List Cond := u_ws RX5 TX5 37
set_option maxRecDepth 100000 in
theorem nmX5 : ∀ a, a < 37 → ∀ b, b < 37 → a ≠ b → (TX5 a).2.1 ≠ (TX5 b).2.1 := by decide +kernel
set_option maxRecDepth 100000 in
theorem tyX5_ok : ∀ k, k < 37 → parseFieldDescriptor (TX5 k).2.2.1 = some (tyX5 k) := by decide +kernel
abbrev cX5_init : ByteArray := prog_9_method_1_code
def yX5_init : MethodName := ⟨RX5, "<init>", "(LNandHouse$Flash;I)V"⟩
def dkwX5_init_12 : List UInt8 := [181, 0, 124, 177]
abbrev dktX5_init_12 : List UInt8 := dkwX5_init_12 ++ []
def dkwX5_init_11 : List UInt8 := [183, 0, 114, 181, 0, 121, 42, 187, 0, 112, 89, 42, 180, 0, 71, 42, 180, 0, 79, 183, 0, 114]
abbrev dktX5_init_11 : List UInt8 := dkwX5_init_11 ++ dktX5_init_12
def dkwX5_init_10 : List UInt8 := [42, 180, 0, 79, 183, 0, 114, 181, 0, 117, 42, 187, 0, 112, 89, 42, 180, 0, 71, 42, 180, 0, 79]
abbrev dktX5_init_10 : List UInt8 := dkwX5_init_10 ++ dktX5_init_11
def dkwX5_init_9 : List UInt8 := [42, 187, 0, 50, 89, 42, 180, 0, 79, 183, 0, 105, 181, 0, 108, 42, 187, 0, 112, 89, 42, 180, 0, 71]
abbrev dktX5_init_9 : List UInt8 := dkwX5_init_9 ++ dktX5_init_10
def dkwX5_init_8 : List UInt8 := [180, 0, 96, 17, 1, 0, 100, 104, 17, 0, 232, 108, 4, 96, 104, 16, 64, 96, 182, 0, 99, 181, 0, 102]
abbrev dktX5_init_8 : List UInt8 := dkwX5_init_8 ++ dktX5_init_9
def dkwX5_init_7 : List UInt8 := [16, 24, 7, 29, 104, 96, 184, 0, 89, 181, 0, 93, 42, 42, 16, 48, 29, 16, 8, 100, 42, 180, 0, 79]
abbrev dktX5_init_7 : List UInt8 := dkwX5_init_7 ++ dktX5_init_8
def dkwX5_init_6 : List UInt8 := [183, 0, 76, 181, 0, 79, 42, 180, 0, 71, 180, 0, 83, 42, 180, 0, 79, 180, 0, 86, 100, 62, 42]
abbrev dktX5_init_6 : List UInt8 := dkwX5_init_6 ++ dktX5_init_7
def dkwX5_init_5 : List UInt8 := [180, 0, 63, 16, 6, 100, 183, 0, 68, 181, 0, 71, 42, 187, 0, 74, 89, 42, 180, 0, 71, 7, 28, 96]
abbrev dktX5_init_5 : List UInt8 := dkwX5_init_5 ++ dktX5_init_6
def dkwX5_init_4 : List UInt8 := [42, 17, 1, 64, 189, 0, 52, 181, 0, 54, 42, 2, 181, 0, 58, 42, 187, 0, 61, 89, 43, 43]
abbrev dktX5_init_4 : List UInt8 := dkwX5_init_4 ++ dktX5_init_5
def dkwX5_init_3 : List UInt8 := [181, 0, 38, 42, 16, 8, 188, 10, 181, 0, 41, 42, 2, 181, 0, 44, 42, 16, 16, 188, 10, 181, 0, 47]
abbrev dktX5_init_3 : List UInt8 := dkwX5_init_3 ++ dktX5_init_4
def dkwX5_init_2 : List UInt8 := [17, 0, 128, 188, 8, 181, 0, 26, 42, 5, 181, 0, 30, 42, 17, 0, 128, 188, 10, 181, 0, 34, 42, 5]
abbrev dktX5_init_2 : List UInt8 := dkwX5_init_2 ++ dktX5_init_3
def dkwX5_init_1 : List UInt8 := [17, 1, 64, 183, 0, 13, 181, 0, 20, 42, 187, 0, 9, 89, 17, 0, 128, 183, 0, 13, 181, 0, 23, 42]
abbrev dktX5_init_1 : List UInt8 := dkwX5_init_1 ++ dktX5_init_2
def dkwX5_init_0 : List UInt8 := [42, 183, 0, 3, 42, 187, 0, 9, 89, 17, 1, 64, 183, 0, 13, 181, 0, 16, 42, 187, 0, 9, 89]
abbrev dktX5_init_0 : List UInt8 := dkwX5_init_0 ++ dktX5_init_1
theorem dksX5_init_0 : cX5_init.data.toList.drop 0 = dktX5_init_0 := by decide +kernel
theorem dksX5_init_1 : cX5_init.data.toList.drop 23 = dktX5_init_1 := dk_seg dksX5_init_0 23 rfl rfl
theorem dksX5_init_2 : cX5_init.data.toList.drop 47 = dktX5_init_2 := dk_seg dksX5_init_1 24 rfl rfl
theorem dksX5_init_3 : cX5_init.data.toList.drop 71 = dktX5_init_3 := dk_seg dksX5_init_2 24 rfl rfl
theorem dksX5_init_4 : cX5_init.data.toList.drop 95 = dktX5_init_4 := dk_seg dksX5_init_3 24 rfl rfl
theorem dksX5_init_5 : cX5_init.data.toList.drop 117 = dktX5_init_5 := dk_seg dksX5_init_4 22 rfl rfl
theorem dksX5_init_6 : cX5_init.data.toList.drop 141 = dktX5_init_6 := dk_seg dksX5_init_5 24 rfl rfl
theorem dksX5_init_7 : cX5_init.data.toList.drop 164 = dktX5_init_7 := dk_seg dksX5_init_6 23 rfl rfl
theorem dksX5_init_8 : cX5_init.data.toList.drop 188 = dktX5_init_8 := dk_seg dksX5_init_7 24 rfl rfl
theorem dksX5_init_9 : cX5_init.data.toList.drop 212 = dktX5_init_9 := dk_seg dksX5_init_8 24 rfl rfl
theorem dksX5_init_10 : cX5_init.data.toList.drop 236 = dktX5_init_10 := dk_seg dksX5_init_9 24 rfl rfl
theorem dksX5_init_11 : cX5_init.data.toList.drop 259 = dktX5_init_11 := dk_seg dksX5_init_10 23 rfl rfl
theorem dksX5_init_12 : cX5_init.data.toList.drop 281 = dktX5_init_12 := dk_seg dksX5_init_11 22 rfl rfl
theorem dX5_init_0 : decode cX5_init 0 = .ok (.aload_n 0, 1) := dk_42 (dk_at dksX5_init_0 0 rfl rfl)
theorem dX5_init_1 : decode cX5_init 1 = .ok (.invokespecial 3, 3) := dk_183 0 3 (dk_at dksX5_init_0 1 rfl rfl)
theorem dX5_init_4 : decode cX5_init 4 = .ok (.aload_n 0, 1) := dk_42 (dk_at dksX5_init_0 4 rfl rfl)
theorem dX5_init_5 : decode cX5_init 5 = .ok (.new 9, 3) := dk_187 0 9 (dk_at dksX5_init_0 5 rfl rfl)
theorem dX5_init_8 : decode cX5_init 8 = .ok (.dup, 1) := dk_89 (dk_at dksX5_init_0 8 rfl rfl)
theorem dX5_init_9 : decode cX5_init 9 = .ok (.sipush 320, 3) := dk_17 1 64 (dk_at dksX5_init_0 9 rfl rfl)
theorem dX5_init_12 : decode cX5_init 12 = .ok (.invokespecial 13, 3) := dk_183 0 13 (dk_at dksX5_init_0 12 rfl rfl)
theorem dX5_init_15 : decode cX5_init 15 = .ok (.putfield 16, 3) := dk_181 0 16 (dk_at dksX5_init_0 15 rfl rfl)
theorem dX5_init_18 : decode cX5_init 18 = .ok (.aload_n 0, 1) := dk_42 (dk_at dksX5_init_0 18 rfl rfl)
theorem dX5_init_19 : decode cX5_init 19 = .ok (.new 9, 3) := dk_187 0 9 (dk_at dksX5_init_0 19 rfl rfl)
theorem dX5_init_22 : decode cX5_init 22 = .ok (.dup, 1) := dk_89 (dk_at dksX5_init_0 22 rfl rfl)
theorem dX5_init_23 : decode cX5_init 23 = .ok (.sipush 320, 3) := dk_17 1 64 (dk_at dksX5_init_1 0 rfl rfl)
theorem dX5_init_26 : decode cX5_init 26 = .ok (.invokespecial 13, 3) := dk_183 0 13 (dk_at dksX5_init_1 3 rfl rfl)
theorem dX5_init_29 : decode cX5_init 29 = .ok (.putfield 20, 3) := dk_181 0 20 (dk_at dksX5_init_1 6 rfl rfl)
theorem dX5_init_32 : decode cX5_init 32 = .ok (.aload_n 0, 1) := dk_42 (dk_at dksX5_init_1 9 rfl rfl)
theorem dX5_init_33 : decode cX5_init 33 = .ok (.new 9, 3) := dk_187 0 9 (dk_at dksX5_init_1 10 rfl rfl)
theorem dX5_init_36 : decode cX5_init 36 = .ok (.dup, 1) := dk_89 (dk_at dksX5_init_1 13 rfl rfl)
theorem dX5_init_37 : decode cX5_init 37 = .ok (.sipush 128, 3) := dk_17 0 128 (dk_at dksX5_init_1 14 rfl rfl)
theorem dX5_init_40 : decode cX5_init 40 = .ok (.invokespecial 13, 3) := dk_183 0 13 (dk_at dksX5_init_1 17 rfl rfl)
theorem dX5_init_43 : decode cX5_init 43 = .ok (.putfield 23, 3) := dk_181 0 23 (dk_at dksX5_init_1 20 rfl rfl)
theorem dX5_init_46 : decode cX5_init 46 = .ok (.aload_n 0, 1) := dk_42 (dk_at dksX5_init_1 23 rfl rfl)
theorem dX5_init_47 : decode cX5_init 47 = .ok (.sipush 128, 3) := dk_17 0 128 (dk_at dksX5_init_2 0 rfl rfl)
theorem dX5_init_50 : decode cX5_init 50 = .ok (.newarray .byte, 2) := dk_188_8 (dk_at dksX5_init_2 3 rfl rfl)
theorem dX5_init_52 : decode cX5_init 52 = .ok (.putfield 26, 3) := dk_181 0 26 (dk_at dksX5_init_2 5 rfl rfl)
theorem dX5_init_55 : decode cX5_init 55 = .ok (.aload_n 0, 1) := dk_42 (dk_at dksX5_init_2 8 rfl rfl)
theorem dX5_init_56 : decode cX5_init 56 = .ok (.iconst 2, 1) := dk_5 (dk_at dksX5_init_2 9 rfl rfl)
theorem dX5_init_57 : decode cX5_init 57 = .ok (.putfield 30, 3) := dk_181 0 30 (dk_at dksX5_init_2 10 rfl rfl)
theorem dX5_init_60 : decode cX5_init 60 = .ok (.aload_n 0, 1) := dk_42 (dk_at dksX5_init_2 13 rfl rfl)
theorem dX5_init_61 : decode cX5_init 61 = .ok (.sipush 128, 3) := dk_17 0 128 (dk_at dksX5_init_2 14 rfl rfl)
theorem dX5_init_64 : decode cX5_init 64 = .ok (.newarray .int, 2) := dk_188_10 (dk_at dksX5_init_2 17 rfl rfl)
theorem dX5_init_66 : decode cX5_init 66 = .ok (.putfield 34, 3) := dk_181 0 34 (dk_at dksX5_init_2 19 rfl rfl)
theorem dX5_init_69 : decode cX5_init 69 = .ok (.aload_n 0, 1) := dk_42 (dk_at dksX5_init_2 22 rfl rfl)
theorem dX5_init_70 : decode cX5_init 70 = .ok (.iconst 2, 1) := dk_5 (dk_at dksX5_init_2 23 rfl rfl)
theorem dX5_init_71 : decode cX5_init 71 = .ok (.putfield 38, 3) := dk_181 0 38 (dk_at dksX5_init_3 0 rfl rfl)
theorem dX5_init_74 : decode cX5_init 74 = .ok (.aload_n 0, 1) := dk_42 (dk_at dksX5_init_3 3 rfl rfl)
theorem dX5_init_75 : decode cX5_init 75 = .ok (.bipush 8, 2) := dk_16 8 (dk_at dksX5_init_3 4 rfl rfl)
theorem dX5_init_77 : decode cX5_init 77 = .ok (.newarray .int, 2) := dk_188_10 (dk_at dksX5_init_3 6 rfl rfl)
theorem dX5_init_79 : decode cX5_init 79 = .ok (.putfield 41, 3) := dk_181 0 41 (dk_at dksX5_init_3 8 rfl rfl)
theorem dX5_init_82 : decode cX5_init 82 = .ok (.aload_n 0, 1) := dk_42 (dk_at dksX5_init_3 11 rfl rfl)
theorem dX5_init_83 : decode cX5_init 83 = .ok (.iconst (-1), 1) := dk_2 (dk_at dksX5_init_3 12 rfl rfl)
theorem dX5_init_84 : decode cX5_init 84 = .ok (.putfield 44, 3) := dk_181 0 44 (dk_at dksX5_init_3 13 rfl rfl)
theorem dX5_init_87 : decode cX5_init 87 = .ok (.aload_n 0, 1) := dk_42 (dk_at dksX5_init_3 16 rfl rfl)
theorem dX5_init_88 : decode cX5_init 88 = .ok (.bipush 16, 2) := dk_16 16 (dk_at dksX5_init_3 17 rfl rfl)
theorem dX5_init_90 : decode cX5_init 90 = .ok (.newarray .int, 2) := dk_188_10 (dk_at dksX5_init_3 19 rfl rfl)
theorem dX5_init_92 : decode cX5_init 92 = .ok (.putfield 47, 3) := dk_181 0 47 (dk_at dksX5_init_3 21 rfl rfl)
theorem dX5_init_95 : decode cX5_init 95 = .ok (.aload_n 0, 1) := dk_42 (dk_at dksX5_init_4 0 rfl rfl)
theorem dX5_init_96 : decode cX5_init 96 = .ok (.sipush 320, 3) := dk_17 1 64 (dk_at dksX5_init_4 1 rfl rfl)
theorem dX5_init_99 : decode cX5_init 99 = .ok (.anewarray 52, 3) := dk_189 0 52 (dk_at dksX5_init_4 4 rfl rfl)
theorem dX5_init_102 : decode cX5_init 102 = .ok (.putfield 54, 3) := dk_181 0 54 (dk_at dksX5_init_4 7 rfl rfl)
theorem dX5_init_105 : decode cX5_init 105 = .ok (.aload_n 0, 1) := dk_42 (dk_at dksX5_init_4 10 rfl rfl)
theorem dX5_init_106 : decode cX5_init 106 = .ok (.iconst (-1), 1) := dk_2 (dk_at dksX5_init_4 11 rfl rfl)
theorem dX5_init_107 : decode cX5_init 107 = .ok (.putfield 58, 3) := dk_181 0 58 (dk_at dksX5_init_4 12 rfl rfl)
theorem dX5_init_110 : decode cX5_init 110 = .ok (.aload_n 0, 1) := dk_42 (dk_at dksX5_init_4 15 rfl rfl)
theorem dX5_init_111 : decode cX5_init 111 = .ok (.new 61, 3) := dk_187 0 61 (dk_at dksX5_init_4 16 rfl rfl)
theorem dX5_init_114 : decode cX5_init 114 = .ok (.dup, 1) := dk_89 (dk_at dksX5_init_4 19 rfl rfl)
theorem dX5_init_115 : decode cX5_init 115 = .ok (.aload_n 1, 1) := dk_43 (dk_at dksX5_init_4 20 rfl rfl)
theorem dX5_init_116 : decode cX5_init 116 = .ok (.aload_n 1, 1) := dk_43 (dk_at dksX5_init_4 21 rfl rfl)
theorem dX5_init_117 : decode cX5_init 117 = .ok (.getfield 63, 3) := dk_180 0 63 (dk_at dksX5_init_5 0 rfl rfl)
theorem dX5_init_120 : decode cX5_init 120 = .ok (.bipush 6, 2) := dk_16 6 (dk_at dksX5_init_5 3 rfl rfl)
theorem dX5_init_122 : decode cX5_init 122 = .ok (.isub, 1) := dk_100 (dk_at dksX5_init_5 5 rfl rfl)
theorem dX5_init_123 : decode cX5_init 123 = .ok (.invokespecial 68, 3) := dk_183 0 68 (dk_at dksX5_init_5 6 rfl rfl)
theorem dX5_init_126 : decode cX5_init 126 = .ok (.putfield 71, 3) := dk_181 0 71 (dk_at dksX5_init_5 9 rfl rfl)
theorem dX5_init_129 : decode cX5_init 129 = .ok (.aload_n 0, 1) := dk_42 (dk_at dksX5_init_5 12 rfl rfl)
theorem dX5_init_130 : decode cX5_init 130 = .ok (.new 74, 3) := dk_187 0 74 (dk_at dksX5_init_5 13 rfl rfl)
theorem dX5_init_133 : decode cX5_init 133 = .ok (.dup, 1) := dk_89 (dk_at dksX5_init_5 16 rfl rfl)
theorem dX5_init_134 : decode cX5_init 134 = .ok (.aload_n 0, 1) := dk_42 (dk_at dksX5_init_5 17 rfl rfl)
theorem dX5_init_135 : decode cX5_init 135 = .ok (.getfield 71, 3) := dk_180 0 71 (dk_at dksX5_init_5 18 rfl rfl)
theorem dX5_init_138 : decode cX5_init 138 = .ok (.iconst 4, 1) := dk_7 (dk_at dksX5_init_5 21 rfl rfl)
theorem dX5_init_139 : decode cX5_init 139 = .ok (.iload_n 2, 1) := dk_28 (dk_at dksX5_init_5 22 rfl rfl)
theorem dX5_init_140 : decode cX5_init 140 = .ok (.iadd, 1) := dk_96 (dk_at dksX5_init_5 23 rfl rfl)
theorem dX5_init_141 : decode cX5_init 141 = .ok (.invokespecial 76, 3) := dk_183 0 76 (dk_at dksX5_init_6 0 rfl rfl)
theorem dX5_init_144 : decode cX5_init 144 = .ok (.putfield 79, 3) := dk_181 0 79 (dk_at dksX5_init_6 3 rfl rfl)
theorem dX5_init_147 : decode cX5_init 147 = .ok (.aload_n 0, 1) := dk_42 (dk_at dksX5_init_6 6 rfl rfl)
theorem dX5_init_148 : decode cX5_init 148 = .ok (.getfield 71, 3) := dk_180 0 71 (dk_at dksX5_init_6 7 rfl rfl)
theorem dX5_init_151 : decode cX5_init 151 = .ok (.getfield 83, 3) := dk_180 0 83 (dk_at dksX5_init_6 10 rfl rfl)
theorem dX5_init_154 : decode cX5_init 154 = .ok (.aload_n 0, 1) := dk_42 (dk_at dksX5_init_6 13 rfl rfl)
theorem dX5_init_155 : decode cX5_init 155 = .ok (.getfield 79, 3) := dk_180 0 79 (dk_at dksX5_init_6 14 rfl rfl)
theorem dX5_init_158 : decode cX5_init 158 = .ok (.getfield 86, 3) := dk_180 0 86 (dk_at dksX5_init_6 17 rfl rfl)
theorem dX5_init_161 : decode cX5_init 161 = .ok (.isub, 1) := dk_100 (dk_at dksX5_init_6 20 rfl rfl)
theorem dX5_init_162 : decode cX5_init 162 = .ok (.istore_n 3, 1) := dk_62 (dk_at dksX5_init_6 21 rfl rfl)
theorem dX5_init_163 : decode cX5_init 163 = .ok (.aload_n 0, 1) := dk_42 (dk_at dksX5_init_6 22 rfl rfl)
theorem dX5_init_164 : decode cX5_init 164 = .ok (.bipush 24, 2) := dk_16 24 (dk_at dksX5_init_7 0 rfl rfl)
theorem dX5_init_166 : decode cX5_init 166 = .ok (.iconst 4, 1) := dk_7 (dk_at dksX5_init_7 2 rfl rfl)
theorem dX5_init_167 : decode cX5_init 167 = .ok (.iload_n 3, 1) := dk_29 (dk_at dksX5_init_7 3 rfl rfl)
theorem dX5_init_168 : decode cX5_init 168 = .ok (.imul, 1) := dk_104 (dk_at dksX5_init_7 4 rfl rfl)
theorem dX5_init_169 : decode cX5_init 169 = .ok (.iadd, 1) := dk_96 (dk_at dksX5_init_7 5 rfl rfl)
theorem dX5_init_170 : decode cX5_init 170 = .ok (.invokestatic 89, 3) := dk_184 0 89 (dk_at dksX5_init_7 6 rfl rfl)
theorem dX5_init_173 : decode cX5_init 173 = .ok (.putfield 93, 3) := dk_181 0 93 (dk_at dksX5_init_7 9 rfl rfl)
theorem dX5_init_176 : decode cX5_init 176 = .ok (.aload_n 0, 1) := dk_42 (dk_at dksX5_init_7 12 rfl rfl)
theorem dX5_init_177 : decode cX5_init 177 = .ok (.aload_n 0, 1) := dk_42 (dk_at dksX5_init_7 13 rfl rfl)
theorem dX5_init_178 : decode cX5_init 178 = .ok (.bipush 48, 2) := dk_16 48 (dk_at dksX5_init_7 14 rfl rfl)
theorem dX5_init_180 : decode cX5_init 180 = .ok (.iload_n 3, 1) := dk_29 (dk_at dksX5_init_7 16 rfl rfl)
theorem dX5_init_181 : decode cX5_init 181 = .ok (.bipush 8, 2) := dk_16 8 (dk_at dksX5_init_7 17 rfl rfl)
theorem dX5_init_183 : decode cX5_init 183 = .ok (.isub, 1) := dk_100 (dk_at dksX5_init_7 19 rfl rfl)
theorem dX5_init_184 : decode cX5_init 184 = .ok (.aload_n 0, 1) := dk_42 (dk_at dksX5_init_7 20 rfl rfl)
theorem dX5_init_185 : decode cX5_init 185 = .ok (.getfield 79, 3) := dk_180 0 79 (dk_at dksX5_init_7 21 rfl rfl)
theorem dX5_init_188 : decode cX5_init 188 = .ok (.getfield 96, 3) := dk_180 0 96 (dk_at dksX5_init_8 0 rfl rfl)
theorem dX5_init_191 : decode cX5_init 191 = .ok (.sipush 256, 3) := dk_17 1 0 (dk_at dksX5_init_8 3 rfl rfl)
theorem dX5_init_194 : decode cX5_init 194 = .ok (.isub, 1) := dk_100 (dk_at dksX5_init_8 6 rfl rfl)
theorem dX5_init_195 : decode cX5_init 195 = .ok (.imul, 1) := dk_104 (dk_at dksX5_init_8 7 rfl rfl)
theorem dX5_init_196 : decode cX5_init 196 = .ok (.sipush 232, 3) := dk_17 0 232 (dk_at dksX5_init_8 8 rfl rfl)
theorem dX5_init_199 : decode cX5_init 199 = .ok (.idiv, 1) := dk_108 (dk_at dksX5_init_8 11 rfl rfl)
theorem dX5_init_200 : decode cX5_init 200 = .ok (.iconst 1, 1) := dk_4 (dk_at dksX5_init_8 12 rfl rfl)
theorem dX5_init_201 : decode cX5_init 201 = .ok (.iadd, 1) := dk_96 (dk_at dksX5_init_8 13 rfl rfl)
theorem dX5_init_202 : decode cX5_init 202 = .ok (.imul, 1) := dk_104 (dk_at dksX5_init_8 14 rfl rfl)
theorem dX5_init_203 : decode cX5_init 203 = .ok (.bipush 64, 2) := dk_16 64 (dk_at dksX5_init_8 15 rfl rfl)
theorem dX5_init_205 : decode cX5_init 205 = .ok (.iadd, 1) := dk_96 (dk_at dksX5_init_8 17 rfl rfl)
theorem dX5_init_206 : decode cX5_init 206 = .ok (.invokevirtual 99, 3) := dk_182 0 99 (dk_at dksX5_init_8 18 rfl rfl)
theorem dX5_init_209 : decode cX5_init 209 = .ok (.putfield 102, 3) := dk_181 0 102 (dk_at dksX5_init_8 21 rfl rfl)
theorem dX5_init_212 : decode cX5_init 212 = .ok (.aload_n 0, 1) := dk_42 (dk_at dksX5_init_9 0 rfl rfl)
theorem dX5_init_213 : decode cX5_init 213 = .ok (.new 50, 3) := dk_187 0 50 (dk_at dksX5_init_9 1 rfl rfl)
theorem dX5_init_216 : decode cX5_init 216 = .ok (.dup, 1) := dk_89 (dk_at dksX5_init_9 4 rfl rfl)
theorem dX5_init_217 : decode cX5_init 217 = .ok (.aload_n 0, 1) := dk_42 (dk_at dksX5_init_9 5 rfl rfl)
theorem dX5_init_218 : decode cX5_init 218 = .ok (.getfield 79, 3) := dk_180 0 79 (dk_at dksX5_init_9 6 rfl rfl)
theorem dX5_init_221 : decode cX5_init 221 = .ok (.invokespecial 105, 3) := dk_183 0 105 (dk_at dksX5_init_9 9 rfl rfl)
theorem dX5_init_224 : decode cX5_init 224 = .ok (.putfield 108, 3) := dk_181 0 108 (dk_at dksX5_init_9 12 rfl rfl)
theorem dX5_init_227 : decode cX5_init 227 = .ok (.aload_n 0, 1) := dk_42 (dk_at dksX5_init_9 15 rfl rfl)
theorem dX5_init_228 : decode cX5_init 228 = .ok (.new 112, 3) := dk_187 0 112 (dk_at dksX5_init_9 16 rfl rfl)
theorem dX5_init_231 : decode cX5_init 231 = .ok (.dup, 1) := dk_89 (dk_at dksX5_init_9 19 rfl rfl)
theorem dX5_init_232 : decode cX5_init 232 = .ok (.aload_n 0, 1) := dk_42 (dk_at dksX5_init_9 20 rfl rfl)
theorem dX5_init_233 : decode cX5_init 233 = .ok (.getfield 71, 3) := dk_180 0 71 (dk_at dksX5_init_9 21 rfl rfl)
theorem dX5_init_236 : decode cX5_init 236 = .ok (.aload_n 0, 1) := dk_42 (dk_at dksX5_init_10 0 rfl rfl)
theorem dX5_init_237 : decode cX5_init 237 = .ok (.getfield 79, 3) := dk_180 0 79 (dk_at dksX5_init_10 1 rfl rfl)
theorem dX5_init_240 : decode cX5_init 240 = .ok (.invokespecial 114, 3) := dk_183 0 114 (dk_at dksX5_init_10 4 rfl rfl)
theorem dX5_init_243 : decode cX5_init 243 = .ok (.putfield 117, 3) := dk_181 0 117 (dk_at dksX5_init_10 7 rfl rfl)
theorem dX5_init_246 : decode cX5_init 246 = .ok (.aload_n 0, 1) := dk_42 (dk_at dksX5_init_10 10 rfl rfl)
theorem dX5_init_247 : decode cX5_init 247 = .ok (.new 112, 3) := dk_187 0 112 (dk_at dksX5_init_10 11 rfl rfl)
theorem dX5_init_250 : decode cX5_init 250 = .ok (.dup, 1) := dk_89 (dk_at dksX5_init_10 14 rfl rfl)
theorem dX5_init_251 : decode cX5_init 251 = .ok (.aload_n 0, 1) := dk_42 (dk_at dksX5_init_10 15 rfl rfl)
theorem dX5_init_252 : decode cX5_init 252 = .ok (.getfield 71, 3) := dk_180 0 71 (dk_at dksX5_init_10 16 rfl rfl)
theorem dX5_init_255 : decode cX5_init 255 = .ok (.aload_n 0, 1) := dk_42 (dk_at dksX5_init_10 19 rfl rfl)
theorem dX5_init_256 : decode cX5_init 256 = .ok (.getfield 79, 3) := dk_180 0 79 (dk_at dksX5_init_10 20 rfl rfl)
theorem dX5_init_259 : decode cX5_init 259 = .ok (.invokespecial 114, 3) := dk_183 0 114 (dk_at dksX5_init_11 0 rfl rfl)
theorem dX5_init_262 : decode cX5_init 262 = .ok (.putfield 121, 3) := dk_181 0 121 (dk_at dksX5_init_11 3 rfl rfl)
theorem dX5_init_265 : decode cX5_init 265 = .ok (.aload_n 0, 1) := dk_42 (dk_at dksX5_init_11 6 rfl rfl)
theorem dX5_init_266 : decode cX5_init 266 = .ok (.new 112, 3) := dk_187 0 112 (dk_at dksX5_init_11 7 rfl rfl)
theorem dX5_init_269 : decode cX5_init 269 = .ok (.dup, 1) := dk_89 (dk_at dksX5_init_11 10 rfl rfl)
theorem dX5_init_270 : decode cX5_init 270 = .ok (.aload_n 0, 1) := dk_42 (dk_at dksX5_init_11 11 rfl rfl)
theorem dX5_init_271 : decode cX5_init 271 = .ok (.getfield 71, 3) := dk_180 0 71 (dk_at dksX5_init_11 12 rfl rfl)
theorem dX5_init_274 : decode cX5_init 274 = .ok (.aload_n 0, 1) := dk_42 (dk_at dksX5_init_11 15 rfl rfl)
theorem dX5_init_275 : decode cX5_init 275 = .ok (.getfield 79, 3) := dk_180 0 79 (dk_at dksX5_init_11 16 rfl rfl)
theorem dX5_init_278 : decode cX5_init 278 = .ok (.invokespecial 114, 3) := dk_183 0 114 (dk_at dksX5_init_11 19 rfl rfl)
theorem dX5_init_281 : decode cX5_init 281 = .ok (.putfield 124, 3) := dk_181 0 124 (dk_at dksX5_init_12 0 rfl rfl)
theorem dX5_init_284 : decode cX5_init 284 = .ok (.return_, 1) := dk_177 (dk_at dksX5_init_12 3 rfl rfl)
abbrev cX5_costOf : ByteArray := prog_9_method_2_code
def yX5_costOf : MethodName := ⟨RX5, "costOf", "(I)I"⟩
def dkwX5_costOf_0 : List UInt8 := [4, 27, 42, 180, 0, 93, 96, 42, 180, 0, 79, 180, 0, 96, 17, 0, 248, 100, 108, 96, 172]
abbrev dktX5_costOf_0 : List UInt8 := dkwX5_costOf_0 ++ []
theorem dksX5_costOf_0 : cX5_costOf.data.toList.drop 0 = dktX5_costOf_0 := by decide +kernel
theorem dX5_costOf_0 : decode cX5_costOf 0 = .ok (.iconst 1, 1) := dk_4 (dk_at dksX5_costOf_0 0 rfl rfl)
theorem dX5_costOf_1 : decode cX5_costOf 1 = .ok (.iload_n 1, 1) := dk_27 (dk_at dksX5_costOf_0 1 rfl rfl)
theorem dX5_costOf_2 : decode cX5_costOf 2 = .ok (.aload_n 0, 1) := dk_42 (dk_at dksX5_costOf_0 2 rfl rfl)
theorem dX5_costOf_3 : decode cX5_costOf 3 = .ok (.getfield 93, 3) := dk_180 0 93 (dk_at dksX5_costOf_0 3 rfl rfl)
theorem dX5_costOf_6 : decode cX5_costOf 6 = .ok (.iadd, 1) := dk_96 (dk_at dksX5_costOf_0 6 rfl rfl)
theorem dX5_costOf_7 : decode cX5_costOf 7 = .ok (.aload_n 0, 1) := dk_42 (dk_at dksX5_costOf_0 7 rfl rfl)
theorem dX5_costOf_8 : decode cX5_costOf 8 = .ok (.getfield 79, 3) := dk_180 0 79 (dk_at dksX5_costOf_0 8 rfl rfl)
theorem dX5_costOf_11 : decode cX5_costOf 11 = .ok (.getfield 96, 3) := dk_180 0 96 (dk_at dksX5_costOf_0 11 rfl rfl)
theorem dX5_costOf_14 : decode cX5_costOf 14 = .ok (.sipush 248, 3) := dk_17 0 248 (dk_at dksX5_costOf_0 14 rfl rfl)
theorem dX5_costOf_17 : decode cX5_costOf 17 = .ok (.isub, 1) := dk_100 (dk_at dksX5_costOf_0 17 rfl rfl)
theorem dX5_costOf_18 : decode cX5_costOf 18 = .ok (.idiv, 1) := dk_108 (dk_at dksX5_costOf_0 18 rfl rfl)
theorem dX5_costOf_19 : decode cX5_costOf 19 = .ok (.iadd, 1) := dk_96 (dk_at dksX5_costOf_0 19 rfl rfl)
theorem dX5_costOf_20 : decode cX5_costOf 20 = .ok (.ireturn, 1) := dk_172 (dk_at dksX5_costOf_0 20 rfl rfl)
abbrev cX5_format : ByteArray := prog_9_method_36_code
def yX5_format : MethodName := ⟨RX5, "format", "()V"⟩
def dkwX5_format_6 : List UInt8 := [182, 0, 229, 177]
abbrev dktX5_format_6 : List UInt8 := dkwX5_format_6 ++ []
def dkwX5_format_5 : List UInt8 := [180, 0, 121, 180, 0, 131, 27, 42, 180, 0, 20, 180, 0, 167, 182, 1, 201, 42, 5, 181, 0, 38, 42]
abbrev dktX5_format_5 : List UInt8 := dkwX5_format_5 ++ dktX5_format_6
def dkwX5_format_4 : List UInt8 := [3, 42, 180, 0, 20, 180, 0, 167, 182, 0, 199, 60, 42, 180, 0, 108, 4, 3, 184, 1, 204, 9, 42]
abbrev dktX5_format_4 : List UInt8 := dkwX5_format_4 ++ dktX5_format_5
def dkwX5_format_3 : List UInt8 := [180, 0, 121, 42, 180, 0, 79, 182, 0, 235, 182, 0, 241, 42, 180, 0, 121, 42, 180, 0, 20, 180, 0, 158]
abbrev dktX5_format_3 : List UInt8 := dkwX5_format_3 ++ dktX5_format_4
def dkwX5_format_2 : List UInt8 := [182, 1, 1, 7, 4, 182, 1, 1, 87, 42, 180, 0, 20, 42, 182, 0, 212, 4, 182, 0, 219, 42]
abbrev dktX5_format_2 : List UInt8 := dkwX5_format_2 ++ dktX5_format_3
def dkwX5_format_1 : List UInt8 := [181, 1, 37, 42, 180, 0, 20, 182, 0, 145, 42, 180, 0, 20, 4, 16, 48, 182, 0, 253, 3, 4]
abbrev dktX5_format_1 : List UInt8 := dkwX5_format_1 ++ dktX5_format_2
def dkwX5_format_0 : List UInt8 := [42, 180, 0, 71, 182, 1, 230, 42, 180, 0, 79, 182, 1, 233, 42, 180, 0, 108, 182, 1, 234, 42, 3]
abbrev dktX5_format_0 : List UInt8 := dkwX5_format_0 ++ dktX5_format_1
theorem dksX5_format_0 : cX5_format.data.toList.drop 0 = dktX5_format_0 := by decide +kernel
theorem dksX5_format_1 : cX5_format.data.toList.drop 23 = dktX5_format_1 := dk_seg dksX5_format_0 23 rfl rfl
theorem dksX5_format_2 : cX5_format.data.toList.drop 45 = dktX5_format_2 := dk_seg dksX5_format_1 22 rfl rfl
theorem dksX5_format_3 : cX5_format.data.toList.drop 67 = dktX5_format_3 := dk_seg dksX5_format_2 22 rfl rfl
theorem dksX5_format_4 : cX5_format.data.toList.drop 91 = dktX5_format_4 := dk_seg dksX5_format_3 24 rfl rfl
theorem dksX5_format_5 : cX5_format.data.toList.drop 114 = dktX5_format_5 := dk_seg dksX5_format_4 23 rfl rfl
theorem dksX5_format_6 : cX5_format.data.toList.drop 137 = dktX5_format_6 := dk_seg dksX5_format_5 23 rfl rfl
theorem dX5_format_0 : decode cX5_format 0 = .ok (.aload_n 0, 1) := dk_42 (dk_at dksX5_format_0 0 rfl rfl)
theorem dX5_format_1 : decode cX5_format 1 = .ok (.getfield 71, 3) := dk_180 0 71 (dk_at dksX5_format_0 1 rfl rfl)
theorem dX5_format_4 : decode cX5_format 4 = .ok (.invokevirtual 486, 3) := dk_182 1 230 (dk_at dksX5_format_0 4 rfl rfl)
theorem dX5_format_7 : decode cX5_format 7 = .ok (.aload_n 0, 1) := dk_42 (dk_at dksX5_format_0 7 rfl rfl)
theorem dX5_format_8 : decode cX5_format 8 = .ok (.getfield 79, 3) := dk_180 0 79 (dk_at dksX5_format_0 8 rfl rfl)
theorem dX5_format_11 : decode cX5_format 11 = .ok (.invokevirtual 489, 3) := dk_182 1 233 (dk_at dksX5_format_0 11 rfl rfl)
theorem dX5_format_14 : decode cX5_format 14 = .ok (.aload_n 0, 1) := dk_42 (dk_at dksX5_format_0 14 rfl rfl)
theorem dX5_format_15 : decode cX5_format 15 = .ok (.getfield 108, 3) := dk_180 0 108 (dk_at dksX5_format_0 15 rfl rfl)
theorem dX5_format_18 : decode cX5_format 18 = .ok (.invokevirtual 490, 3) := dk_182 1 234 (dk_at dksX5_format_0 18 rfl rfl)
theorem dX5_format_21 : decode cX5_format 21 = .ok (.aload_n 0, 1) := dk_42 (dk_at dksX5_format_0 21 rfl rfl)
theorem dX5_format_22 : decode cX5_format 22 = .ok (.iconst 0, 1) := dk_3 (dk_at dksX5_format_0 22 rfl rfl)
theorem dX5_format_23 : decode cX5_format 23 = .ok (.putfield 293, 3) := dk_181 1 37 (dk_at dksX5_format_1 0 rfl rfl)
theorem dX5_format_26 : decode cX5_format 26 = .ok (.aload_n 0, 1) := dk_42 (dk_at dksX5_format_1 3 rfl rfl)
theorem dX5_format_27 : decode cX5_format 27 = .ok (.getfield 20, 3) := dk_180 0 20 (dk_at dksX5_format_1 4 rfl rfl)
theorem dX5_format_30 : decode cX5_format 30 = .ok (.invokevirtual 145, 3) := dk_182 0 145 (dk_at dksX5_format_1 7 rfl rfl)
theorem dX5_format_33 : decode cX5_format 33 = .ok (.aload_n 0, 1) := dk_42 (dk_at dksX5_format_1 10 rfl rfl)
theorem dX5_format_34 : decode cX5_format 34 = .ok (.getfield 20, 3) := dk_180 0 20 (dk_at dksX5_format_1 11 rfl rfl)
theorem dX5_format_37 : decode cX5_format 37 = .ok (.iconst 1, 1) := dk_4 (dk_at dksX5_format_1 14 rfl rfl)
theorem dX5_format_38 : decode cX5_format 38 = .ok (.bipush 48, 2) := dk_16 48 (dk_at dksX5_format_1 15 rfl rfl)
theorem dX5_format_40 : decode cX5_format 40 = .ok (.invokevirtual 253, 3) := dk_182 0 253 (dk_at dksX5_format_1 17 rfl rfl)
theorem dX5_format_43 : decode cX5_format 43 = .ok (.iconst 0, 1) := dk_3 (dk_at dksX5_format_1 20 rfl rfl)
theorem dX5_format_44 : decode cX5_format 44 = .ok (.iconst 1, 1) := dk_4 (dk_at dksX5_format_1 21 rfl rfl)
theorem dX5_format_45 : decode cX5_format 45 = .ok (.invokevirtual 257, 3) := dk_182 1 1 (dk_at dksX5_format_2 0 rfl rfl)
theorem dX5_format_48 : decode cX5_format 48 = .ok (.iconst 4, 1) := dk_7 (dk_at dksX5_format_2 3 rfl rfl)
theorem dX5_format_49 : decode cX5_format 49 = .ok (.iconst 1, 1) := dk_4 (dk_at dksX5_format_2 4 rfl rfl)
theorem dX5_format_50 : decode cX5_format 50 = .ok (.invokevirtual 257, 3) := dk_182 1 1 (dk_at dksX5_format_2 5 rfl rfl)
theorem dX5_format_53 : decode cX5_format 53 = .ok (.pop, 1) := dk_87 (dk_at dksX5_format_2 8 rfl rfl)
theorem dX5_format_54 : decode cX5_format 54 = .ok (.aload_n 0, 1) := dk_42 (dk_at dksX5_format_2 9 rfl rfl)
theorem dX5_format_55 : decode cX5_format 55 = .ok (.getfield 20, 3) := dk_180 0 20 (dk_at dksX5_format_2 10 rfl rfl)
theorem dX5_format_58 : decode cX5_format 58 = .ok (.aload_n 0, 1) := dk_42 (dk_at dksX5_format_2 13 rfl rfl)
theorem dX5_format_59 : decode cX5_format 59 = .ok (.invokevirtual 212, 3) := dk_182 0 212 (dk_at dksX5_format_2 14 rfl rfl)
theorem dX5_format_62 : decode cX5_format 62 = .ok (.iconst 1, 1) := dk_4 (dk_at dksX5_format_2 17 rfl rfl)
theorem dX5_format_63 : decode cX5_format 63 = .ok (.invokevirtual 219, 3) := dk_182 0 219 (dk_at dksX5_format_2 18 rfl rfl)
theorem dX5_format_66 : decode cX5_format 66 = .ok (.aload_n 0, 1) := dk_42 (dk_at dksX5_format_2 21 rfl rfl)
theorem dX5_format_67 : decode cX5_format 67 = .ok (.getfield 121, 3) := dk_180 0 121 (dk_at dksX5_format_3 0 rfl rfl)
theorem dX5_format_70 : decode cX5_format 70 = .ok (.aload_n 0, 1) := dk_42 (dk_at dksX5_format_3 3 rfl rfl)
theorem dX5_format_71 : decode cX5_format 71 = .ok (.getfield 79, 3) := dk_180 0 79 (dk_at dksX5_format_3 4 rfl rfl)
theorem dX5_format_74 : decode cX5_format 74 = .ok (.invokevirtual 235, 3) := dk_182 0 235 (dk_at dksX5_format_3 7 rfl rfl)
theorem dX5_format_77 : decode cX5_format 77 = .ok (.invokevirtual 241, 3) := dk_182 0 241 (dk_at dksX5_format_3 10 rfl rfl)
theorem dX5_format_80 : decode cX5_format 80 = .ok (.aload_n 0, 1) := dk_42 (dk_at dksX5_format_3 13 rfl rfl)
theorem dX5_format_81 : decode cX5_format 81 = .ok (.getfield 121, 3) := dk_180 0 121 (dk_at dksX5_format_3 14 rfl rfl)
theorem dX5_format_84 : decode cX5_format 84 = .ok (.aload_n 0, 1) := dk_42 (dk_at dksX5_format_3 17 rfl rfl)
theorem dX5_format_85 : decode cX5_format 85 = .ok (.getfield 20, 3) := dk_180 0 20 (dk_at dksX5_format_3 18 rfl rfl)
theorem dX5_format_88 : decode cX5_format 88 = .ok (.getfield 158, 3) := dk_180 0 158 (dk_at dksX5_format_3 21 rfl rfl)
theorem dX5_format_91 : decode cX5_format 91 = .ok (.iconst 0, 1) := dk_3 (dk_at dksX5_format_4 0 rfl rfl)
theorem dX5_format_92 : decode cX5_format 92 = .ok (.aload_n 0, 1) := dk_42 (dk_at dksX5_format_4 1 rfl rfl)
theorem dX5_format_93 : decode cX5_format 93 = .ok (.getfield 20, 3) := dk_180 0 20 (dk_at dksX5_format_4 2 rfl rfl)
theorem dX5_format_96 : decode cX5_format 96 = .ok (.getfield 167, 3) := dk_180 0 167 (dk_at dksX5_format_4 5 rfl rfl)
theorem dX5_format_99 : decode cX5_format 99 = .ok (.invokevirtual 199, 3) := dk_182 0 199 (dk_at dksX5_format_4 8 rfl rfl)
theorem dX5_format_102 : decode cX5_format 102 = .ok (.istore_n 1, 1) := dk_60 (dk_at dksX5_format_4 11 rfl rfl)
theorem dX5_format_103 : decode cX5_format 103 = .ok (.aload_n 0, 1) := dk_42 (dk_at dksX5_format_4 12 rfl rfl)
theorem dX5_format_104 : decode cX5_format 104 = .ok (.getfield 108, 3) := dk_180 0 108 (dk_at dksX5_format_4 13 rfl rfl)
theorem dX5_format_107 : decode cX5_format 107 = .ok (.iconst 1, 1) := dk_4 (dk_at dksX5_format_4 16 rfl rfl)
theorem dX5_format_108 : decode cX5_format 108 = .ok (.iconst 0, 1) := dk_3 (dk_at dksX5_format_4 17 rfl rfl)
theorem dX5_format_109 : decode cX5_format 109 = .ok (.invokestatic 460, 3) := dk_184 1 204 (dk_at dksX5_format_4 18 rfl rfl)
theorem dX5_format_112 : decode cX5_format 112 = .ok (.lconst 0, 1) := dk_9 (dk_at dksX5_format_4 21 rfl rfl)
theorem dX5_format_113 : decode cX5_format 113 = .ok (.aload_n 0, 1) := dk_42 (dk_at dksX5_format_4 22 rfl rfl)
theorem dX5_format_114 : decode cX5_format 114 = .ok (.getfield 121, 3) := dk_180 0 121 (dk_at dksX5_format_5 0 rfl rfl)
theorem dX5_format_117 : decode cX5_format 117 = .ok (.getfield 131, 3) := dk_180 0 131 (dk_at dksX5_format_5 3 rfl rfl)
theorem dX5_format_120 : decode cX5_format 120 = .ok (.iload_n 1, 1) := dk_27 (dk_at dksX5_format_5 6 rfl rfl)
theorem dX5_format_121 : decode cX5_format 121 = .ok (.aload_n 0, 1) := dk_42 (dk_at dksX5_format_5 7 rfl rfl)
theorem dX5_format_122 : decode cX5_format 122 = .ok (.getfield 20, 3) := dk_180 0 20 (dk_at dksX5_format_5 8 rfl rfl)
theorem dX5_format_125 : decode cX5_format 125 = .ok (.getfield 167, 3) := dk_180 0 167 (dk_at dksX5_format_5 11 rfl rfl)
theorem dX5_format_128 : decode cX5_format 128 = .ok (.invokevirtual 457, 3) := dk_182 1 201 (dk_at dksX5_format_5 14 rfl rfl)
theorem dX5_format_131 : decode cX5_format 131 = .ok (.aload_n 0, 1) := dk_42 (dk_at dksX5_format_5 17 rfl rfl)
theorem dX5_format_132 : decode cX5_format 132 = .ok (.iconst 2, 1) := dk_5 (dk_at dksX5_format_5 18 rfl rfl)
theorem dX5_format_133 : decode cX5_format 133 = .ok (.putfield 38, 3) := dk_181 0 38 (dk_at dksX5_format_5 19 rfl rfl)
theorem dX5_format_136 : decode cX5_format 136 = .ok (.aload_n 0, 1) := dk_42 (dk_at dksX5_format_5 22 rfl rfl)
theorem dX5_format_137 : decode cX5_format 137 = .ok (.invokevirtual 229, 3) := dk_182 0 229 (dk_at dksX5_format_6 0 rfl rfl)
theorem dX5_format_140 : decode cX5_format 140 = .ok (.return_, 1) := dk_177 (dk_at dksX5_format_6 3 rfl rfl)
abbrev cX5_serial : ByteArray := prog_9_method_3_code
def yX5_serial : MethodName := ⟨RX5, "serial", "()J"⟩
def dkwX5_serial_0 : List UInt8 := [42, 89, 180, 0, 127, 10, 97, 93, 181, 0, 127, 173]
abbrev dktX5_serial_0 : List UInt8 := dkwX5_serial_0 ++ []
theorem dksX5_serial_0 : cX5_serial.data.toList.drop 0 = dktX5_serial_0 := by decide +kernel
theorem dX5_serial_0 : decode cX5_serial 0 = .ok (.aload_n 0, 1) := dk_42 (dk_at dksX5_serial_0 0 rfl rfl)
theorem dX5_serial_1 : decode cX5_serial 1 = .ok (.dup, 1) := dk_89 (dk_at dksX5_serial_0 1 rfl rfl)
theorem dX5_serial_2 : decode cX5_serial 2 = .ok (.getfield 127, 3) := dk_180 0 127 (dk_at dksX5_serial_0 2 rfl rfl)
theorem dX5_serial_5 : decode cX5_serial 5 = .ok (.lconst 1, 1) := dk_10 (dk_at dksX5_serial_0 5 rfl rfl)
theorem dX5_serial_6 : decode cX5_serial 6 = .ok (.ladd, 1) := dk_97 (dk_at dksX5_serial_0 6 rfl rfl)
theorem dX5_serial_7 : decode cX5_serial 7 = .ok (.dup2_x1, 1) := dk_93 (dk_at dksX5_serial_0 7 rfl rfl)
theorem dX5_serial_8 : decode cX5_serial 8 = .ok (.putfield 127, 3) := dk_181 0 127 (dk_at dksX5_serial_0 8 rfl rfl)
theorem dX5_serial_11 : decode cX5_serial 11 = .ok (.lreturn, 1) := dk_173 (dk_at dksX5_serial_0 11 rfl rfl)
abbrev cX5_commitAll : ByteArray := prog_9_method_23_code
def yX5_commitAll : MethodName := ⟨RX5, "commitAll", "()V"⟩
def dkwX5_commitAll_0 : List UInt8 := [42, 182, 0, 184, 42, 182, 1, 139, 42, 182, 0, 184, 177]
abbrev dktX5_commitAll_0 : List UInt8 := dkwX5_commitAll_0 ++ []
theorem dksX5_commitAll_0 : cX5_commitAll.data.toList.drop 0 = dktX5_commitAll_0 := by decide +kernel
theorem dX5_commitAll_0 : decode cX5_commitAll 0 = .ok (.aload_n 0, 1) := dk_42 (dk_at dksX5_commitAll_0 0 rfl rfl)
theorem dX5_commitAll_1 : decode cX5_commitAll 1 = .ok (.invokevirtual 184, 3) := dk_182 0 184 (dk_at dksX5_commitAll_0 1 rfl rfl)
theorem dX5_commitAll_4 : decode cX5_commitAll 4 = .ok (.aload_n 0, 1) := dk_42 (dk_at dksX5_commitAll_0 4 rfl rfl)
theorem dX5_commitAll_5 : decode cX5_commitAll 5 = .ok (.invokevirtual 395, 3) := dk_182 1 139 (dk_at dksX5_commitAll_0 5 rfl rfl)
theorem dX5_commitAll_8 : decode cX5_commitAll 8 = .ok (.aload_n 0, 1) := dk_42 (dk_at dksX5_commitAll_0 8 rfl rfl)
theorem dX5_commitAll_9 : decode cX5_commitAll 9 = .ok (.invokevirtual 184, 3) := dk_182 0 184 (dk_at dksX5_commitAll_0 9 rfl rfl)
theorem dX5_commitAll_12 : decode cX5_commitAll 12 = .ok (.return_, 1) := dk_177 (dk_at dksX5_commitAll_0 12 rfl rfl)
abbrev cX5_finish : ByteArray := prog_9_method_22_code
def yX5_finish : MethodName := ⟨RX5, "finish", "()V"⟩
def dkwX5_finish_0 : List UInt8 := [42, 180, 1, 52, 153, 0, 10, 42, 182, 1, 136, 167, 255, 245, 177]
abbrev dktX5_finish_0 : List UInt8 := dkwX5_finish_0 ++ []
theorem dksX5_finish_0 : cX5_finish.data.toList.drop 0 = dktX5_finish_0 := by decide +kernel
theorem dX5_finish_0 : decode cX5_finish 0 = .ok (.aload_n 0, 1) := dk_42 (dk_at dksX5_finish_0 0 rfl rfl)
theorem dX5_finish_1 : decode cX5_finish 1 = .ok (.getfield 308, 3) := dk_180 1 52 (dk_at dksX5_finish_0 1 rfl rfl)
theorem dX5_finish_4 : decode cX5_finish 4 = .ok (.ifCond .eq 10, 3) := dk_153 0 10 (dk_at dksX5_finish_0 4 rfl rfl)
theorem dX5_finish_7 : decode cX5_finish 7 = .ok (.aload_n 0, 1) := dk_42 (dk_at dksX5_finish_0 7 rfl rfl)
theorem dX5_finish_8 : decode cX5_finish 8 = .ok (.invokevirtual 392, 3) := dk_182 1 136 (dk_at dksX5_finish_0 8 rfl rfl)
theorem dX5_finish_11 : decode cX5_finish 11 = .ok (.goto (-11), 3) := dk_167 255 245 (dk_at dksX5_finish_0 11 rfl rfl)
theorem dX5_finish_14 : decode cX5_finish 14 = .ok (.return_, 1) := dk_177 (dk_at dksX5_finish_0 14 rfl rfl)
abbrev cX5_commitStep : ByteArray := prog_9_method_17_code
def yX5_commitStep : MethodName := ⟨RX5, "commitStep", "()V"⟩
def dkwX5_commitStep_1 : List UInt8 := [181, 1, 46, 50, 182, 1, 68, 167, 0, 7, 42, 182, 1, 71, 177]
abbrev dktX5_commitStep_1 : List UInt8 := dkwX5_commitStep_1 ++ []
def dkwX5_commitStep_0 : List UInt8 := [42, 180, 1, 46, 42, 180, 1, 43, 162, 0, 26, 42, 42, 180, 0, 54, 42, 89, 180, 1, 46, 90, 4, 96]
abbrev dktX5_commitStep_0 : List UInt8 := dkwX5_commitStep_0 ++ dktX5_commitStep_1
theorem dksX5_commitStep_0 : cX5_commitStep.data.toList.drop 0 = dktX5_commitStep_0 := by decide +kernel
theorem dksX5_commitStep_1 : cX5_commitStep.data.toList.drop 24 = dktX5_commitStep_1 := dk_seg dksX5_commitStep_0 24 rfl rfl
theorem dX5_commitStep_0 : decode cX5_commitStep 0 = .ok (.aload_n 0, 1) := dk_42 (dk_at dksX5_commitStep_0 0 rfl rfl)
theorem dX5_commitStep_1 : decode cX5_commitStep 1 = .ok (.getfield 302, 3) := dk_180 1 46 (dk_at dksX5_commitStep_0 1 rfl rfl)
theorem dX5_commitStep_4 : decode cX5_commitStep 4 = .ok (.aload_n 0, 1) := dk_42 (dk_at dksX5_commitStep_0 4 rfl rfl)
theorem dX5_commitStep_5 : decode cX5_commitStep 5 = .ok (.getfield 299, 3) := dk_180 1 43 (dk_at dksX5_commitStep_0 5 rfl rfl)
theorem dX5_commitStep_8 : decode cX5_commitStep 8 = .ok (.if_icmp .ge 26, 3) := dk_162 0 26 (dk_at dksX5_commitStep_0 8 rfl rfl)
theorem dX5_commitStep_11 : decode cX5_commitStep 11 = .ok (.aload_n 0, 1) := dk_42 (dk_at dksX5_commitStep_0 11 rfl rfl)
theorem dX5_commitStep_12 : decode cX5_commitStep 12 = .ok (.aload_n 0, 1) := dk_42 (dk_at dksX5_commitStep_0 12 rfl rfl)
theorem dX5_commitStep_13 : decode cX5_commitStep 13 = .ok (.getfield 54, 3) := dk_180 0 54 (dk_at dksX5_commitStep_0 13 rfl rfl)
theorem dX5_commitStep_16 : decode cX5_commitStep 16 = .ok (.aload_n 0, 1) := dk_42 (dk_at dksX5_commitStep_0 16 rfl rfl)
theorem dX5_commitStep_17 : decode cX5_commitStep 17 = .ok (.dup, 1) := dk_89 (dk_at dksX5_commitStep_0 17 rfl rfl)
theorem dX5_commitStep_18 : decode cX5_commitStep 18 = .ok (.getfield 302, 3) := dk_180 1 46 (dk_at dksX5_commitStep_0 18 rfl rfl)
theorem dX5_commitStep_21 : decode cX5_commitStep 21 = .ok (.dup_x1, 1) := dk_90 (dk_at dksX5_commitStep_0 21 rfl rfl)
theorem dX5_commitStep_22 : decode cX5_commitStep 22 = .ok (.iconst 1, 1) := dk_4 (dk_at dksX5_commitStep_0 22 rfl rfl)
theorem dX5_commitStep_23 : decode cX5_commitStep 23 = .ok (.iadd, 1) := dk_96 (dk_at dksX5_commitStep_0 23 rfl rfl)
theorem dX5_commitStep_24 : decode cX5_commitStep 24 = .ok (.putfield 302, 3) := dk_181 1 46 (dk_at dksX5_commitStep_1 0 rfl rfl)
theorem dX5_commitStep_27 : decode cX5_commitStep 27 = .ok (.aaload, 1) := dk_50 (dk_at dksX5_commitStep_1 3 rfl rfl)
theorem dX5_commitStep_28 : decode cX5_commitStep 28 = .ok (.invokevirtual 324, 3) := dk_182 1 68 (dk_at dksX5_commitStep_1 4 rfl rfl)
theorem dX5_commitStep_31 : decode cX5_commitStep 31 = .ok (.goto 7, 3) := dk_167 0 7 (dk_at dksX5_commitStep_1 7 rfl rfl)
theorem dX5_commitStep_34 : decode cX5_commitStep 34 = .ok (.aload_n 0, 1) := dk_42 (dk_at dksX5_commitStep_1 10 rfl rfl)
theorem dX5_commitStep_35 : decode cX5_commitStep 35 = .ok (.invokevirtual 327, 3) := dk_182 1 71 (dk_at dksX5_commitStep_1 11 rfl rfl)
theorem dX5_commitStep_38 : decode cX5_commitStep 38 = .ok (.return_, 1) := dk_177 (dk_at dksX5_commitStep_1 14 rfl rfl)
abbrev cX5_writeKnot : ByteArray := prog_9_method_18_code
def yX5_writeKnot : MethodName := ⟨RX5, "writeKnot", "(LNandHouse$Knot;)V"⟩
def dkwX5_writeKnot_11 : List UInt8 := [181, 1, 65, 42, 180, 0, 79, 180, 1, 107, 43, 180, 1, 90, 92, 46, 43, 180, 1, 100, 96, 79, 177]
abbrev dktX5_writeKnot_11 : List UInt8 := dkwX5_writeKnot_11 ++ []
def dkwX5_writeKnot_10 : List UInt8 := [43, 42, 180, 0, 124, 180, 0, 131, 181, 1, 90, 43, 42, 180, 0, 20, 180, 0, 167, 181, 1, 100, 43, 3]
abbrev dktX5_writeKnot_10 : List UInt8 := dkwX5_writeKnot_10 ++ dktX5_writeKnot_11
def dkwX5_writeKnot_9 : List UInt8 := [180, 0, 124, 42, 180, 0, 20, 180, 0, 158, 3, 42, 180, 0, 20, 180, 0, 167, 182, 0, 199, 181, 1, 95]
abbrev dktX5_writeKnot_9 : List UInt8 := dkwX5_writeKnot_9 ++ dktX5_writeKnot_10
def dkwX5_writeKnot_8 : List UInt8 := [182, 0, 212, 4, 182, 0, 219, 42, 42, 180, 0, 124, 42, 180, 0, 20, 180, 0, 167, 182, 1, 103, 43, 42]
abbrev dktX5_writeKnot_8 : List UInt8 := dkwX5_writeKnot_8 ++ dktX5_writeKnot_9
def dkwX5_writeKnot_7 : List UInt8 := [167, 0, 7, 45, 180, 1, 100, 182, 1, 1, 87, 132, 2, 1, 167, 255, 115, 42, 180, 0, 20, 42]
abbrev dktX5_writeKnot_7 : List UInt8 := dkwX5_writeKnot_7 ++ dktX5_writeKnot_8
def dkwX5_writeKnot_6 : List UInt8 := [180, 1, 95, 182, 1, 1, 16, 32, 16, 28, 28, 104, 96, 45, 199, 0, 12, 43, 180, 1, 98, 28, 46]
abbrev dktX5_writeKnot_6 : List UInt8 := dkwX5_writeKnot_6 ++ dktX5_writeKnot_7
def dkwX5_writeKnot_5 : List UInt8 := [182, 1, 1, 16, 28, 16, 28, 28, 104, 96, 45, 199, 0, 12, 43, 180, 1, 93, 28, 46, 167, 0, 7, 45]
abbrev dktX5_writeKnot_5 : List UInt8 := dkwX5_writeKnot_5 ++ dktX5_writeKnot_6
def dkwX5_writeKnot_4 : List UInt8 := [16, 24, 16, 28, 28, 104, 96, 45, 199, 0, 12, 43, 180, 1, 88, 28, 46, 167, 0, 7, 45, 180, 1, 90]
abbrev dktX5_writeKnot_4 : List UInt8 := dkwX5_writeKnot_4 ++ dktX5_writeKnot_5
def dkwX5_writeKnot_3 : List UInt8 := [182, 1, 81, 16, 16, 16, 28, 28, 104, 96, 43, 180, 1, 85, 28, 47, 182, 1, 81, 87, 42, 180, 0, 20]
abbrev dktX5_writeKnot_3 : List UInt8 := dkwX5_writeKnot_3 ++ dktX5_writeKnot_4
def dkwX5_writeKnot_2 : List UInt8 := [180, 1, 62, 28, 50, 78, 42, 180, 0, 20, 16, 8, 16, 28, 28, 104, 96, 43, 180, 1, 77, 28, 47]
abbrev dktX5_writeKnot_2 : List UInt8 := dkwX5_writeKnot_2 ++ dktX5_writeKnot_3
def dkwX5_writeKnot_1 : List UInt8 := [182, 1, 1, 7, 43, 180, 1, 56, 182, 1, 1, 87, 3, 61, 28, 43, 180, 1, 56, 162, 0, 139, 43]
abbrev dktX5_writeKnot_1 : List UInt8 := dkwX5_writeKnot_1 ++ dktX5_writeKnot_2
def dkwX5_writeKnot_0 : List UInt8 := [42, 180, 0, 20, 182, 0, 145, 42, 180, 0, 20, 8, 43, 184, 1, 74, 182, 0, 253, 3, 43, 180, 1, 59]
abbrev dktX5_writeKnot_0 : List UInt8 := dkwX5_writeKnot_0 ++ dktX5_writeKnot_1
theorem dksX5_writeKnot_0 : cX5_writeKnot.data.toList.drop 0 = dktX5_writeKnot_0 := by decide +kernel
theorem dksX5_writeKnot_1 : cX5_writeKnot.data.toList.drop 24 = dktX5_writeKnot_1 := dk_seg dksX5_writeKnot_0 24 rfl rfl
theorem dksX5_writeKnot_2 : cX5_writeKnot.data.toList.drop 47 = dktX5_writeKnot_2 := dk_seg dksX5_writeKnot_1 23 rfl rfl
theorem dksX5_writeKnot_3 : cX5_writeKnot.data.toList.drop 70 = dktX5_writeKnot_3 := dk_seg dksX5_writeKnot_2 23 rfl rfl
theorem dksX5_writeKnot_4 : cX5_writeKnot.data.toList.drop 94 = dktX5_writeKnot_4 := dk_seg dksX5_writeKnot_3 24 rfl rfl
theorem dksX5_writeKnot_5 : cX5_writeKnot.data.toList.drop 118 = dktX5_writeKnot_5 := dk_seg dksX5_writeKnot_4 24 rfl rfl
theorem dksX5_writeKnot_6 : cX5_writeKnot.data.toList.drop 142 = dktX5_writeKnot_6 := dk_seg dksX5_writeKnot_5 24 rfl rfl
theorem dksX5_writeKnot_7 : cX5_writeKnot.data.toList.drop 165 = dktX5_writeKnot_7 := dk_seg dksX5_writeKnot_6 23 rfl rfl
theorem dksX5_writeKnot_8 : cX5_writeKnot.data.toList.drop 187 = dktX5_writeKnot_8 := dk_seg dksX5_writeKnot_7 22 rfl rfl
theorem dksX5_writeKnot_9 : cX5_writeKnot.data.toList.drop 211 = dktX5_writeKnot_9 := dk_seg dksX5_writeKnot_8 24 rfl rfl
theorem dksX5_writeKnot_10 : cX5_writeKnot.data.toList.drop 235 = dktX5_writeKnot_10 := dk_seg dksX5_writeKnot_9 24 rfl rfl
theorem dksX5_writeKnot_11 : cX5_writeKnot.data.toList.drop 259 = dktX5_writeKnot_11 := dk_seg dksX5_writeKnot_10 24 rfl rfl
theorem dX5_writeKnot_0 : decode cX5_writeKnot 0 = .ok (.aload_n 0, 1) := dk_42 (dk_at dksX5_writeKnot_0 0 rfl rfl)
theorem dX5_writeKnot_1 : decode cX5_writeKnot 1 = .ok (.getfield 20, 3) := dk_180 0 20 (dk_at dksX5_writeKnot_0 1 rfl rfl)
theorem dX5_writeKnot_4 : decode cX5_writeKnot 4 = .ok (.invokevirtual 145, 3) := dk_182 0 145 (dk_at dksX5_writeKnot_0 4 rfl rfl)
theorem dX5_writeKnot_7 : decode cX5_writeKnot 7 = .ok (.aload_n 0, 1) := dk_42 (dk_at dksX5_writeKnot_0 7 rfl rfl)
theorem dX5_writeKnot_8 : decode cX5_writeKnot 8 = .ok (.getfield 20, 3) := dk_180 0 20 (dk_at dksX5_writeKnot_0 8 rfl rfl)
theorem dX5_writeKnot_11 : decode cX5_writeKnot 11 = .ok (.iconst 5, 1) := dk_8 (dk_at dksX5_writeKnot_0 11 rfl rfl)
theorem dX5_writeKnot_12 : decode cX5_writeKnot 12 = .ok (.aload_n 1, 1) := dk_43 (dk_at dksX5_writeKnot_0 12 rfl rfl)
theorem dX5_writeKnot_13 : decode cX5_writeKnot 13 = .ok (.invokestatic 330, 3) := dk_184 1 74 (dk_at dksX5_writeKnot_0 13 rfl rfl)
theorem dX5_writeKnot_16 : decode cX5_writeKnot 16 = .ok (.invokevirtual 253, 3) := dk_182 0 253 (dk_at dksX5_writeKnot_0 16 rfl rfl)
theorem dX5_writeKnot_19 : decode cX5_writeKnot 19 = .ok (.iconst 0, 1) := dk_3 (dk_at dksX5_writeKnot_0 19 rfl rfl)
theorem dX5_writeKnot_20 : decode cX5_writeKnot 20 = .ok (.aload_n 1, 1) := dk_43 (dk_at dksX5_writeKnot_0 20 rfl rfl)
theorem dX5_writeKnot_21 : decode cX5_writeKnot 21 = .ok (.getfield 315, 3) := dk_180 1 59 (dk_at dksX5_writeKnot_0 21 rfl rfl)
theorem dX5_writeKnot_24 : decode cX5_writeKnot 24 = .ok (.invokevirtual 257, 3) := dk_182 1 1 (dk_at dksX5_writeKnot_1 0 rfl rfl)
theorem dX5_writeKnot_27 : decode cX5_writeKnot 27 = .ok (.iconst 4, 1) := dk_7 (dk_at dksX5_writeKnot_1 3 rfl rfl)
theorem dX5_writeKnot_28 : decode cX5_writeKnot 28 = .ok (.aload_n 1, 1) := dk_43 (dk_at dksX5_writeKnot_1 4 rfl rfl)
theorem dX5_writeKnot_29 : decode cX5_writeKnot 29 = .ok (.getfield 312, 3) := dk_180 1 56 (dk_at dksX5_writeKnot_1 5 rfl rfl)
theorem dX5_writeKnot_32 : decode cX5_writeKnot 32 = .ok (.invokevirtual 257, 3) := dk_182 1 1 (dk_at dksX5_writeKnot_1 8 rfl rfl)
theorem dX5_writeKnot_35 : decode cX5_writeKnot 35 = .ok (.pop, 1) := dk_87 (dk_at dksX5_writeKnot_1 11 rfl rfl)
theorem dX5_writeKnot_36 : decode cX5_writeKnot 36 = .ok (.iconst 0, 1) := dk_3 (dk_at dksX5_writeKnot_1 12 rfl rfl)
theorem dX5_writeKnot_37 : decode cX5_writeKnot 37 = .ok (.istore_n 2, 1) := dk_61 (dk_at dksX5_writeKnot_1 13 rfl rfl)
theorem dX5_writeKnot_38 : decode cX5_writeKnot 38 = .ok (.iload_n 2, 1) := dk_28 (dk_at dksX5_writeKnot_1 14 rfl rfl)
theorem dX5_writeKnot_39 : decode cX5_writeKnot 39 = .ok (.aload_n 1, 1) := dk_43 (dk_at dksX5_writeKnot_1 15 rfl rfl)
theorem dX5_writeKnot_40 : decode cX5_writeKnot 40 = .ok (.getfield 312, 3) := dk_180 1 56 (dk_at dksX5_writeKnot_1 16 rfl rfl)
theorem dX5_writeKnot_43 : decode cX5_writeKnot 43 = .ok (.if_icmp .ge 139, 3) := dk_162 0 139 (dk_at dksX5_writeKnot_1 19 rfl rfl)
theorem dX5_writeKnot_46 : decode cX5_writeKnot 46 = .ok (.aload_n 1, 1) := dk_43 (dk_at dksX5_writeKnot_1 22 rfl rfl)
theorem dX5_writeKnot_47 : decode cX5_writeKnot 47 = .ok (.getfield 318, 3) := dk_180 1 62 (dk_at dksX5_writeKnot_2 0 rfl rfl)
theorem dX5_writeKnot_50 : decode cX5_writeKnot 50 = .ok (.iload_n 2, 1) := dk_28 (dk_at dksX5_writeKnot_2 3 rfl rfl)
theorem dX5_writeKnot_51 : decode cX5_writeKnot 51 = .ok (.aaload, 1) := dk_50 (dk_at dksX5_writeKnot_2 4 rfl rfl)
theorem dX5_writeKnot_52 : decode cX5_writeKnot 52 = .ok (.astore_n 3, 1) := dk_78 (dk_at dksX5_writeKnot_2 5 rfl rfl)
theorem dX5_writeKnot_53 : decode cX5_writeKnot 53 = .ok (.aload_n 0, 1) := dk_42 (dk_at dksX5_writeKnot_2 6 rfl rfl)
theorem dX5_writeKnot_54 : decode cX5_writeKnot 54 = .ok (.getfield 20, 3) := dk_180 0 20 (dk_at dksX5_writeKnot_2 7 rfl rfl)
theorem dX5_writeKnot_57 : decode cX5_writeKnot 57 = .ok (.bipush 8, 2) := dk_16 8 (dk_at dksX5_writeKnot_2 10 rfl rfl)
theorem dX5_writeKnot_59 : decode cX5_writeKnot 59 = .ok (.bipush 28, 2) := dk_16 28 (dk_at dksX5_writeKnot_2 12 rfl rfl)
theorem dX5_writeKnot_61 : decode cX5_writeKnot 61 = .ok (.iload_n 2, 1) := dk_28 (dk_at dksX5_writeKnot_2 14 rfl rfl)
theorem dX5_writeKnot_62 : decode cX5_writeKnot 62 = .ok (.imul, 1) := dk_104 (dk_at dksX5_writeKnot_2 15 rfl rfl)
theorem dX5_writeKnot_63 : decode cX5_writeKnot 63 = .ok (.iadd, 1) := dk_96 (dk_at dksX5_writeKnot_2 16 rfl rfl)
theorem dX5_writeKnot_64 : decode cX5_writeKnot 64 = .ok (.aload_n 1, 1) := dk_43 (dk_at dksX5_writeKnot_2 17 rfl rfl)
theorem dX5_writeKnot_65 : decode cX5_writeKnot 65 = .ok (.getfield 333, 3) := dk_180 1 77 (dk_at dksX5_writeKnot_2 18 rfl rfl)
theorem dX5_writeKnot_68 : decode cX5_writeKnot 68 = .ok (.iload_n 2, 1) := dk_28 (dk_at dksX5_writeKnot_2 21 rfl rfl)
theorem dX5_writeKnot_69 : decode cX5_writeKnot 69 = .ok (.laload, 1) := dk_47 (dk_at dksX5_writeKnot_2 22 rfl rfl)
theorem dX5_writeKnot_70 : decode cX5_writeKnot 70 = .ok (.invokevirtual 337, 3) := dk_182 1 81 (dk_at dksX5_writeKnot_3 0 rfl rfl)
theorem dX5_writeKnot_73 : decode cX5_writeKnot 73 = .ok (.bipush 16, 2) := dk_16 16 (dk_at dksX5_writeKnot_3 3 rfl rfl)
theorem dX5_writeKnot_75 : decode cX5_writeKnot 75 = .ok (.bipush 28, 2) := dk_16 28 (dk_at dksX5_writeKnot_3 5 rfl rfl)
theorem dX5_writeKnot_77 : decode cX5_writeKnot 77 = .ok (.iload_n 2, 1) := dk_28 (dk_at dksX5_writeKnot_3 7 rfl rfl)
theorem dX5_writeKnot_78 : decode cX5_writeKnot 78 = .ok (.imul, 1) := dk_104 (dk_at dksX5_writeKnot_3 8 rfl rfl)
theorem dX5_writeKnot_79 : decode cX5_writeKnot 79 = .ok (.iadd, 1) := dk_96 (dk_at dksX5_writeKnot_3 9 rfl rfl)
theorem dX5_writeKnot_80 : decode cX5_writeKnot 80 = .ok (.aload_n 1, 1) := dk_43 (dk_at dksX5_writeKnot_3 10 rfl rfl)
theorem dX5_writeKnot_81 : decode cX5_writeKnot 81 = .ok (.getfield 341, 3) := dk_180 1 85 (dk_at dksX5_writeKnot_3 11 rfl rfl)
theorem dX5_writeKnot_84 : decode cX5_writeKnot 84 = .ok (.iload_n 2, 1) := dk_28 (dk_at dksX5_writeKnot_3 14 rfl rfl)
theorem dX5_writeKnot_85 : decode cX5_writeKnot 85 = .ok (.laload, 1) := dk_47 (dk_at dksX5_writeKnot_3 15 rfl rfl)
theorem dX5_writeKnot_86 : decode cX5_writeKnot 86 = .ok (.invokevirtual 337, 3) := dk_182 1 81 (dk_at dksX5_writeKnot_3 16 rfl rfl)
theorem dX5_writeKnot_89 : decode cX5_writeKnot 89 = .ok (.pop, 1) := dk_87 (dk_at dksX5_writeKnot_3 19 rfl rfl)
theorem dX5_writeKnot_90 : decode cX5_writeKnot 90 = .ok (.aload_n 0, 1) := dk_42 (dk_at dksX5_writeKnot_3 20 rfl rfl)
theorem dX5_writeKnot_91 : decode cX5_writeKnot 91 = .ok (.getfield 20, 3) := dk_180 0 20 (dk_at dksX5_writeKnot_3 21 rfl rfl)
theorem dX5_writeKnot_94 : decode cX5_writeKnot 94 = .ok (.bipush 24, 2) := dk_16 24 (dk_at dksX5_writeKnot_4 0 rfl rfl)
theorem dX5_writeKnot_96 : decode cX5_writeKnot 96 = .ok (.bipush 28, 2) := dk_16 28 (dk_at dksX5_writeKnot_4 2 rfl rfl)
theorem dX5_writeKnot_98 : decode cX5_writeKnot 98 = .ok (.iload_n 2, 1) := dk_28 (dk_at dksX5_writeKnot_4 4 rfl rfl)
theorem dX5_writeKnot_99 : decode cX5_writeKnot 99 = .ok (.imul, 1) := dk_104 (dk_at dksX5_writeKnot_4 5 rfl rfl)
theorem dX5_writeKnot_100 : decode cX5_writeKnot 100 = .ok (.iadd, 1) := dk_96 (dk_at dksX5_writeKnot_4 6 rfl rfl)
theorem dX5_writeKnot_101 : decode cX5_writeKnot 101 = .ok (.aload_n 3, 1) := dk_45 (dk_at dksX5_writeKnot_4 7 rfl rfl)
theorem dX5_writeKnot_102 : decode cX5_writeKnot 102 = .ok (.ifnonnull 12, 3) := dk_199 0 12 (dk_at dksX5_writeKnot_4 8 rfl rfl)
theorem dX5_writeKnot_105 : decode cX5_writeKnot 105 = .ok (.aload_n 1, 1) := dk_43 (dk_at dksX5_writeKnot_4 11 rfl rfl)
theorem dX5_writeKnot_106 : decode cX5_writeKnot 106 = .ok (.getfield 344, 3) := dk_180 1 88 (dk_at dksX5_writeKnot_4 12 rfl rfl)
theorem dX5_writeKnot_109 : decode cX5_writeKnot 109 = .ok (.iload_n 2, 1) := dk_28 (dk_at dksX5_writeKnot_4 15 rfl rfl)
theorem dX5_writeKnot_110 : decode cX5_writeKnot 110 = .ok (.iaload, 1) := dk_46 (dk_at dksX5_writeKnot_4 16 rfl rfl)
theorem dX5_writeKnot_111 : decode cX5_writeKnot 111 = .ok (.goto 7, 3) := dk_167 0 7 (dk_at dksX5_writeKnot_4 17 rfl rfl)
theorem dX5_writeKnot_114 : decode cX5_writeKnot 114 = .ok (.aload_n 3, 1) := dk_45 (dk_at dksX5_writeKnot_4 20 rfl rfl)
theorem dX5_writeKnot_115 : decode cX5_writeKnot 115 = .ok (.getfield 346, 3) := dk_180 1 90 (dk_at dksX5_writeKnot_4 21 rfl rfl)
theorem dX5_writeKnot_118 : decode cX5_writeKnot 118 = .ok (.invokevirtual 257, 3) := dk_182 1 1 (dk_at dksX5_writeKnot_5 0 rfl rfl)
theorem dX5_writeKnot_121 : decode cX5_writeKnot 121 = .ok (.bipush 28, 2) := dk_16 28 (dk_at dksX5_writeKnot_5 3 rfl rfl)
theorem dX5_writeKnot_123 : decode cX5_writeKnot 123 = .ok (.bipush 28, 2) := dk_16 28 (dk_at dksX5_writeKnot_5 5 rfl rfl)
theorem dX5_writeKnot_125 : decode cX5_writeKnot 125 = .ok (.iload_n 2, 1) := dk_28 (dk_at dksX5_writeKnot_5 7 rfl rfl)
theorem dX5_writeKnot_126 : decode cX5_writeKnot 126 = .ok (.imul, 1) := dk_104 (dk_at dksX5_writeKnot_5 8 rfl rfl)
theorem dX5_writeKnot_127 : decode cX5_writeKnot 127 = .ok (.iadd, 1) := dk_96 (dk_at dksX5_writeKnot_5 9 rfl rfl)
theorem dX5_writeKnot_128 : decode cX5_writeKnot 128 = .ok (.aload_n 3, 1) := dk_45 (dk_at dksX5_writeKnot_5 10 rfl rfl)
theorem dX5_writeKnot_129 : decode cX5_writeKnot 129 = .ok (.ifnonnull 12, 3) := dk_199 0 12 (dk_at dksX5_writeKnot_5 11 rfl rfl)
theorem dX5_writeKnot_132 : decode cX5_writeKnot 132 = .ok (.aload_n 1, 1) := dk_43 (dk_at dksX5_writeKnot_5 14 rfl rfl)
theorem dX5_writeKnot_133 : decode cX5_writeKnot 133 = .ok (.getfield 349, 3) := dk_180 1 93 (dk_at dksX5_writeKnot_5 15 rfl rfl)
theorem dX5_writeKnot_136 : decode cX5_writeKnot 136 = .ok (.iload_n 2, 1) := dk_28 (dk_at dksX5_writeKnot_5 18 rfl rfl)
theorem dX5_writeKnot_137 : decode cX5_writeKnot 137 = .ok (.iaload, 1) := dk_46 (dk_at dksX5_writeKnot_5 19 rfl rfl)
theorem dX5_writeKnot_138 : decode cX5_writeKnot 138 = .ok (.goto 7, 3) := dk_167 0 7 (dk_at dksX5_writeKnot_5 20 rfl rfl)
theorem dX5_writeKnot_141 : decode cX5_writeKnot 141 = .ok (.aload_n 3, 1) := dk_45 (dk_at dksX5_writeKnot_5 23 rfl rfl)
theorem dX5_writeKnot_142 : decode cX5_writeKnot 142 = .ok (.getfield 351, 3) := dk_180 1 95 (dk_at dksX5_writeKnot_6 0 rfl rfl)
theorem dX5_writeKnot_145 : decode cX5_writeKnot 145 = .ok (.invokevirtual 257, 3) := dk_182 1 1 (dk_at dksX5_writeKnot_6 3 rfl rfl)
theorem dX5_writeKnot_148 : decode cX5_writeKnot 148 = .ok (.bipush 32, 2) := dk_16 32 (dk_at dksX5_writeKnot_6 6 rfl rfl)
theorem dX5_writeKnot_150 : decode cX5_writeKnot 150 = .ok (.bipush 28, 2) := dk_16 28 (dk_at dksX5_writeKnot_6 8 rfl rfl)
theorem dX5_writeKnot_152 : decode cX5_writeKnot 152 = .ok (.iload_n 2, 1) := dk_28 (dk_at dksX5_writeKnot_6 10 rfl rfl)
theorem dX5_writeKnot_153 : decode cX5_writeKnot 153 = .ok (.imul, 1) := dk_104 (dk_at dksX5_writeKnot_6 11 rfl rfl)
theorem dX5_writeKnot_154 : decode cX5_writeKnot 154 = .ok (.iadd, 1) := dk_96 (dk_at dksX5_writeKnot_6 12 rfl rfl)
theorem dX5_writeKnot_155 : decode cX5_writeKnot 155 = .ok (.aload_n 3, 1) := dk_45 (dk_at dksX5_writeKnot_6 13 rfl rfl)
theorem dX5_writeKnot_156 : decode cX5_writeKnot 156 = .ok (.ifnonnull 12, 3) := dk_199 0 12 (dk_at dksX5_writeKnot_6 14 rfl rfl)
theorem dX5_writeKnot_159 : decode cX5_writeKnot 159 = .ok (.aload_n 1, 1) := dk_43 (dk_at dksX5_writeKnot_6 17 rfl rfl)
theorem dX5_writeKnot_160 : decode cX5_writeKnot 160 = .ok (.getfield 354, 3) := dk_180 1 98 (dk_at dksX5_writeKnot_6 18 rfl rfl)
theorem dX5_writeKnot_163 : decode cX5_writeKnot 163 = .ok (.iload_n 2, 1) := dk_28 (dk_at dksX5_writeKnot_6 21 rfl rfl)
theorem dX5_writeKnot_164 : decode cX5_writeKnot 164 = .ok (.iaload, 1) := dk_46 (dk_at dksX5_writeKnot_6 22 rfl rfl)
theorem dX5_writeKnot_165 : decode cX5_writeKnot 165 = .ok (.goto 7, 3) := dk_167 0 7 (dk_at dksX5_writeKnot_7 0 rfl rfl)
theorem dX5_writeKnot_168 : decode cX5_writeKnot 168 = .ok (.aload_n 3, 1) := dk_45 (dk_at dksX5_writeKnot_7 3 rfl rfl)
theorem dX5_writeKnot_169 : decode cX5_writeKnot 169 = .ok (.getfield 356, 3) := dk_180 1 100 (dk_at dksX5_writeKnot_7 4 rfl rfl)
theorem dX5_writeKnot_172 : decode cX5_writeKnot 172 = .ok (.invokevirtual 257, 3) := dk_182 1 1 (dk_at dksX5_writeKnot_7 7 rfl rfl)
theorem dX5_writeKnot_175 : decode cX5_writeKnot 175 = .ok (.pop, 1) := dk_87 (dk_at dksX5_writeKnot_7 10 rfl rfl)
theorem dX5_writeKnot_176 : decode cX5_writeKnot 176 = .ok (.iinc 2 1, 3) := dk_132 2 1 (dk_at dksX5_writeKnot_7 11 rfl rfl)
theorem dX5_writeKnot_179 : decode cX5_writeKnot 179 = .ok (.goto (-141), 3) := dk_167 255 115 (dk_at dksX5_writeKnot_7 14 rfl rfl)
theorem dX5_writeKnot_182 : decode cX5_writeKnot 182 = .ok (.aload_n 0, 1) := dk_42 (dk_at dksX5_writeKnot_7 17 rfl rfl)
theorem dX5_writeKnot_183 : decode cX5_writeKnot 183 = .ok (.getfield 20, 3) := dk_180 0 20 (dk_at dksX5_writeKnot_7 18 rfl rfl)
theorem dX5_writeKnot_186 : decode cX5_writeKnot 186 = .ok (.aload_n 0, 1) := dk_42 (dk_at dksX5_writeKnot_7 21 rfl rfl)
theorem dX5_writeKnot_187 : decode cX5_writeKnot 187 = .ok (.invokevirtual 212, 3) := dk_182 0 212 (dk_at dksX5_writeKnot_8 0 rfl rfl)
theorem dX5_writeKnot_190 : decode cX5_writeKnot 190 = .ok (.iconst 1, 1) := dk_4 (dk_at dksX5_writeKnot_8 3 rfl rfl)
theorem dX5_writeKnot_191 : decode cX5_writeKnot 191 = .ok (.invokevirtual 219, 3) := dk_182 0 219 (dk_at dksX5_writeKnot_8 4 rfl rfl)
theorem dX5_writeKnot_194 : decode cX5_writeKnot 194 = .ok (.aload_n 0, 1) := dk_42 (dk_at dksX5_writeKnot_8 7 rfl rfl)
theorem dX5_writeKnot_195 : decode cX5_writeKnot 195 = .ok (.aload_n 0, 1) := dk_42 (dk_at dksX5_writeKnot_8 8 rfl rfl)
theorem dX5_writeKnot_196 : decode cX5_writeKnot 196 = .ok (.getfield 124, 3) := dk_180 0 124 (dk_at dksX5_writeKnot_8 9 rfl rfl)
theorem dX5_writeKnot_199 : decode cX5_writeKnot 199 = .ok (.aload_n 0, 1) := dk_42 (dk_at dksX5_writeKnot_8 12 rfl rfl)
theorem dX5_writeKnot_200 : decode cX5_writeKnot 200 = .ok (.getfield 20, 3) := dk_180 0 20 (dk_at dksX5_writeKnot_8 13 rfl rfl)
theorem dX5_writeKnot_203 : decode cX5_writeKnot 203 = .ok (.getfield 167, 3) := dk_180 0 167 (dk_at dksX5_writeKnot_8 16 rfl rfl)
theorem dX5_writeKnot_206 : decode cX5_writeKnot 206 = .ok (.invokevirtual 359, 3) := dk_182 1 103 (dk_at dksX5_writeKnot_8 19 rfl rfl)
theorem dX5_writeKnot_209 : decode cX5_writeKnot 209 = .ok (.aload_n 1, 1) := dk_43 (dk_at dksX5_writeKnot_8 22 rfl rfl)
theorem dX5_writeKnot_210 : decode cX5_writeKnot 210 = .ok (.aload_n 0, 1) := dk_42 (dk_at dksX5_writeKnot_8 23 rfl rfl)
theorem dX5_writeKnot_211 : decode cX5_writeKnot 211 = .ok (.getfield 124, 3) := dk_180 0 124 (dk_at dksX5_writeKnot_9 0 rfl rfl)
theorem dX5_writeKnot_214 : decode cX5_writeKnot 214 = .ok (.aload_n 0, 1) := dk_42 (dk_at dksX5_writeKnot_9 3 rfl rfl)
theorem dX5_writeKnot_215 : decode cX5_writeKnot 215 = .ok (.getfield 20, 3) := dk_180 0 20 (dk_at dksX5_writeKnot_9 4 rfl rfl)
theorem dX5_writeKnot_218 : decode cX5_writeKnot 218 = .ok (.getfield 158, 3) := dk_180 0 158 (dk_at dksX5_writeKnot_9 7 rfl rfl)
theorem dX5_writeKnot_221 : decode cX5_writeKnot 221 = .ok (.iconst 0, 1) := dk_3 (dk_at dksX5_writeKnot_9 10 rfl rfl)
theorem dX5_writeKnot_222 : decode cX5_writeKnot 222 = .ok (.aload_n 0, 1) := dk_42 (dk_at dksX5_writeKnot_9 11 rfl rfl)
theorem dX5_writeKnot_223 : decode cX5_writeKnot 223 = .ok (.getfield 20, 3) := dk_180 0 20 (dk_at dksX5_writeKnot_9 12 rfl rfl)
theorem dX5_writeKnot_226 : decode cX5_writeKnot 226 = .ok (.getfield 167, 3) := dk_180 0 167 (dk_at dksX5_writeKnot_9 15 rfl rfl)
theorem dX5_writeKnot_229 : decode cX5_writeKnot 229 = .ok (.invokevirtual 199, 3) := dk_182 0 199 (dk_at dksX5_writeKnot_9 18 rfl rfl)
theorem dX5_writeKnot_232 : decode cX5_writeKnot 232 = .ok (.putfield 351, 3) := dk_181 1 95 (dk_at dksX5_writeKnot_9 21 rfl rfl)
theorem dX5_writeKnot_235 : decode cX5_writeKnot 235 = .ok (.aload_n 1, 1) := dk_43 (dk_at dksX5_writeKnot_10 0 rfl rfl)
theorem dX5_writeKnot_236 : decode cX5_writeKnot 236 = .ok (.aload_n 0, 1) := dk_42 (dk_at dksX5_writeKnot_10 1 rfl rfl)
theorem dX5_writeKnot_237 : decode cX5_writeKnot 237 = .ok (.getfield 124, 3) := dk_180 0 124 (dk_at dksX5_writeKnot_10 2 rfl rfl)
theorem dX5_writeKnot_240 : decode cX5_writeKnot 240 = .ok (.getfield 131, 3) := dk_180 0 131 (dk_at dksX5_writeKnot_10 5 rfl rfl)
theorem dX5_writeKnot_243 : decode cX5_writeKnot 243 = .ok (.putfield 346, 3) := dk_181 1 90 (dk_at dksX5_writeKnot_10 8 rfl rfl)
theorem dX5_writeKnot_246 : decode cX5_writeKnot 246 = .ok (.aload_n 1, 1) := dk_43 (dk_at dksX5_writeKnot_10 11 rfl rfl)
theorem dX5_writeKnot_247 : decode cX5_writeKnot 247 = .ok (.aload_n 0, 1) := dk_42 (dk_at dksX5_writeKnot_10 12 rfl rfl)
theorem dX5_writeKnot_248 : decode cX5_writeKnot 248 = .ok (.getfield 20, 3) := dk_180 0 20 (dk_at dksX5_writeKnot_10 13 rfl rfl)
theorem dX5_writeKnot_251 : decode cX5_writeKnot 251 = .ok (.getfield 167, 3) := dk_180 0 167 (dk_at dksX5_writeKnot_10 16 rfl rfl)
theorem dX5_writeKnot_254 : decode cX5_writeKnot 254 = .ok (.putfield 356, 3) := dk_181 1 100 (dk_at dksX5_writeKnot_10 19 rfl rfl)
theorem dX5_writeKnot_257 : decode cX5_writeKnot 257 = .ok (.aload_n 1, 1) := dk_43 (dk_at dksX5_writeKnot_10 22 rfl rfl)
theorem dX5_writeKnot_258 : decode cX5_writeKnot 258 = .ok (.iconst 0, 1) := dk_3 (dk_at dksX5_writeKnot_10 23 rfl rfl)
theorem dX5_writeKnot_259 : decode cX5_writeKnot 259 = .ok (.putfield 321, 3) := dk_181 1 65 (dk_at dksX5_writeKnot_11 0 rfl rfl)
theorem dX5_writeKnot_262 : decode cX5_writeKnot 262 = .ok (.aload_n 0, 1) := dk_42 (dk_at dksX5_writeKnot_11 3 rfl rfl)
theorem dX5_writeKnot_263 : decode cX5_writeKnot 263 = .ok (.getfield 79, 3) := dk_180 0 79 (dk_at dksX5_writeKnot_11 4 rfl rfl)
theorem dX5_writeKnot_266 : decode cX5_writeKnot 266 = .ok (.getfield 363, 3) := dk_180 1 107 (dk_at dksX5_writeKnot_11 7 rfl rfl)
theorem dX5_writeKnot_269 : decode cX5_writeKnot 269 = .ok (.aload_n 1, 1) := dk_43 (dk_at dksX5_writeKnot_11 10 rfl rfl)
theorem dX5_writeKnot_270 : decode cX5_writeKnot 270 = .ok (.getfield 346, 3) := dk_180 1 90 (dk_at dksX5_writeKnot_11 11 rfl rfl)
theorem dX5_writeKnot_273 : decode cX5_writeKnot 273 = .ok (.dup2, 1) := dk_92 (dk_at dksX5_writeKnot_11 14 rfl rfl)
theorem dX5_writeKnot_274 : decode cX5_writeKnot 274 = .ok (.iaload, 1) := dk_46 (dk_at dksX5_writeKnot_11 15 rfl rfl)
theorem dX5_writeKnot_275 : decode cX5_writeKnot 275 = .ok (.aload_n 1, 1) := dk_43 (dk_at dksX5_writeKnot_11 16 rfl rfl)
theorem dX5_writeKnot_276 : decode cX5_writeKnot 276 = .ok (.getfield 356, 3) := dk_180 1 100 (dk_at dksX5_writeKnot_11 17 rfl rfl)
theorem dX5_writeKnot_279 : decode cX5_writeKnot 279 = .ok (.iadd, 1) := dk_96 (dk_at dksX5_writeKnot_11 20 rfl rfl)
theorem dX5_writeKnot_280 : decode cX5_writeKnot 280 = .ok (.iastore, 1) := dk_79 (dk_at dksX5_writeKnot_11 21 rfl rfl)
theorem dX5_writeKnot_281 : decode cX5_writeKnot 281 = .ok (.return_, 1) := dk_177 (dk_at dksX5_writeKnot_11 22 rfl rfl)
abbrev cX5_room : ByteArray := prog_9_method_19_code
def yX5_room : MethodName := ⟨RX5, "room", "(LNandHouse$Writer;I)V"⟩
def dkwX5_room_2 : List UInt8 := [84, 177]
abbrev dktX5_room_2 : List UInt8 := dkwX5_room_2 ++ []
def dkwX5_room_1 : List UInt8 := [42, 180, 0, 79, 180, 1, 112, 43, 180, 0, 131, 43, 42, 180, 0, 124, 166, 0, 7, 4, 167, 0, 4, 3]
abbrev dktX5_room_1 : List UInt8 := dkwX5_room_1 ++ dktX5_room_2
def dkwX5_room_0 : List UInt8 := [43, 28, 182, 0, 187, 153, 0, 4, 177, 43, 182, 1, 110, 43, 42, 180, 0, 79, 182, 0, 235, 182, 0, 241]
abbrev dktX5_room_0 : List UInt8 := dkwX5_room_0 ++ dktX5_room_1
theorem dksX5_room_0 : cX5_room.data.toList.drop 0 = dktX5_room_0 := by decide +kernel
theorem dksX5_room_1 : cX5_room.data.toList.drop 24 = dktX5_room_1 := dk_seg dksX5_room_0 24 rfl rfl
theorem dksX5_room_2 : cX5_room.data.toList.drop 48 = dktX5_room_2 := dk_seg dksX5_room_1 24 rfl rfl
theorem dX5_room_0 : decode cX5_room 0 = .ok (.aload_n 1, 1) := dk_43 (dk_at dksX5_room_0 0 rfl rfl)
theorem dX5_room_1 : decode cX5_room 1 = .ok (.iload_n 2, 1) := dk_28 (dk_at dksX5_room_0 1 rfl rfl)
theorem dX5_room_2 : decode cX5_room 2 = .ok (.invokevirtual 187, 3) := dk_182 0 187 (dk_at dksX5_room_0 2 rfl rfl)
theorem dX5_room_5 : decode cX5_room 5 = .ok (.ifCond .eq 4, 3) := dk_153 0 4 (dk_at dksX5_room_0 5 rfl rfl)
theorem dX5_room_8 : decode cX5_room 8 = .ok (.return_, 1) := dk_177 (dk_at dksX5_room_0 8 rfl rfl)
theorem dX5_room_9 : decode cX5_room 9 = .ok (.aload_n 1, 1) := dk_43 (dk_at dksX5_room_0 9 rfl rfl)
theorem dX5_room_10 : decode cX5_room 10 = .ok (.invokevirtual 366, 3) := dk_182 1 110 (dk_at dksX5_room_0 10 rfl rfl)
theorem dX5_room_13 : decode cX5_room 13 = .ok (.aload_n 1, 1) := dk_43 (dk_at dksX5_room_0 13 rfl rfl)
theorem dX5_room_14 : decode cX5_room 14 = .ok (.aload_n 0, 1) := dk_42 (dk_at dksX5_room_0 14 rfl rfl)
theorem dX5_room_15 : decode cX5_room 15 = .ok (.getfield 79, 3) := dk_180 0 79 (dk_at dksX5_room_0 15 rfl rfl)
theorem dX5_room_18 : decode cX5_room 18 = .ok (.invokevirtual 235, 3) := dk_182 0 235 (dk_at dksX5_room_0 18 rfl rfl)
theorem dX5_room_21 : decode cX5_room 21 = .ok (.invokevirtual 241, 3) := dk_182 0 241 (dk_at dksX5_room_0 21 rfl rfl)
theorem dX5_room_24 : decode cX5_room 24 = .ok (.aload_n 0, 1) := dk_42 (dk_at dksX5_room_1 0 rfl rfl)
theorem dX5_room_25 : decode cX5_room 25 = .ok (.getfield 79, 3) := dk_180 0 79 (dk_at dksX5_room_1 1 rfl rfl)
theorem dX5_room_28 : decode cX5_room 28 = .ok (.getfield 368, 3) := dk_180 1 112 (dk_at dksX5_room_1 4 rfl rfl)
theorem dX5_room_31 : decode cX5_room 31 = .ok (.aload_n 1, 1) := dk_43 (dk_at dksX5_room_1 7 rfl rfl)
theorem dX5_room_32 : decode cX5_room 32 = .ok (.getfield 131, 3) := dk_180 0 131 (dk_at dksX5_room_1 8 rfl rfl)
theorem dX5_room_35 : decode cX5_room 35 = .ok (.aload_n 1, 1) := dk_43 (dk_at dksX5_room_1 11 rfl rfl)
theorem dX5_room_36 : decode cX5_room 36 = .ok (.aload_n 0, 1) := dk_42 (dk_at dksX5_room_1 12 rfl rfl)
theorem dX5_room_37 : decode cX5_room 37 = .ok (.getfield 124, 3) := dk_180 0 124 (dk_at dksX5_room_1 13 rfl rfl)
theorem dX5_room_40 : decode cX5_room 40 = .ok (.if_acmp .ne 7, 3) := dk_166 0 7 (dk_at dksX5_room_1 16 rfl rfl)
theorem dX5_room_43 : decode cX5_room 43 = .ok (.iconst 1, 1) := dk_4 (dk_at dksX5_room_1 19 rfl rfl)
theorem dX5_room_44 : decode cX5_room 44 = .ok (.goto 4, 3) := dk_167 0 4 (dk_at dksX5_room_1 20 rfl rfl)
theorem dX5_room_47 : decode cX5_room 47 = .ok (.iconst 0, 1) := dk_3 (dk_at dksX5_room_1 23 rfl rfl)
theorem dX5_room_48 : decode cX5_room 48 = .ok (.bastore, 1) := dk_84 (dk_at dksX5_room_2 0 rfl rfl)
theorem dX5_room_49 : decode cX5_room 49 = .ok (.return_, 1) := dk_177 (dk_at dksX5_room_2 1 rfl rfl)
abbrev cX5_endCommit : ByteArray := prog_9_method_21_code
def yX5_endCommit : MethodName := ⟨RX5, "endCommit", "()V"⟩
def dkwX5_endCommit_9 : List UInt8 := [42, 180, 0, 79, 182, 1, 130, 42, 3, 181, 1, 52, 42, 2, 181, 0, 58, 42, 3, 181, 1, 133, 177]
abbrev dktX5_endCommit_9 : List UInt8 := dkwX5_endCommit_9 ++ []
def dkwX5_endCommit_8 : List UInt8 := [180, 0, 158, 3, 182, 1, 10, 132, 1, 1, 167, 255, 198, 42, 180, 0, 71, 42, 180, 1, 28, 182, 1, 31]
abbrev dktX5_endCommit_8 : List UInt8 := dkwX5_endCommit_8 ++ dktX5_endCommit_9
def dkwX5_endCommit_7 : List UInt8 := [180, 0, 71, 27, 182, 1, 31, 42, 180, 0, 71, 27, 42, 180, 0, 71, 27, 182, 0, 170, 42, 180, 0, 23]
abbrev dktX5_endCommit_7 : List UInt8 := dkwX5_endCommit_7 ++ dktX5_endCommit_8
def dkwX5_endCommit_6 : List UInt8 := [162, 0, 59, 42, 180, 0, 71, 27, 182, 0, 170, 42, 180, 0, 71, 182, 1, 127, 160, 0, 11, 42]
abbrev dktX5_endCommit_6 : List UInt8 := dkwX5_endCommit_6 ++ dktX5_endCommit_7
def dkwX5_endCommit_5 : List UInt8 := [180, 1, 116, 182, 1, 1, 87, 42, 180, 0, 23, 42, 182, 0, 212, 4, 182, 0, 219, 3, 60, 27, 5]
abbrev dktX5_endCommit_5 : List UInt8 := dkwX5_endCommit_5 ++ dktX5_endCommit_6
def dkwX5_endCommit_4 : List UInt8 := [180, 0, 23, 16, 24, 42, 180, 0, 44, 182, 1, 1, 16, 28, 42, 180, 1, 119, 182, 1, 1, 16, 32, 42]
abbrev dktX5_endCommit_4 : List UInt8 := dkwX5_endCommit_4 ++ dktX5_endCommit_5
def dkwX5_endCommit_3 : List UInt8 := [180, 0, 108, 180, 1, 16, 180, 1, 100, 182, 1, 1, 16, 20, 42, 180, 0, 30, 182, 1, 1, 87, 42]
abbrev dktX5_endCommit_3 : List UInt8 := dkwX5_endCommit_3 ++ dktX5_endCommit_4
def dkwX5_endCommit_2 : List UInt8 := [180, 1, 90, 182, 1, 1, 16, 12, 42, 180, 0, 108, 180, 1, 16, 180, 1, 95, 182, 1, 1, 16, 16, 42]
abbrev dktX5_endCommit_2 : List UInt8 := dkwX5_endCommit_2 ++ dktX5_endCommit_3
def dkwX5_endCommit_1 : List UInt8 := [180, 1, 34, 42, 180, 0, 38, 182, 1, 3, 42, 180, 0, 23, 16, 8, 42, 180, 0, 108, 180, 1, 16]
abbrev dktX5_endCommit_1 : List UInt8 := dkwX5_endCommit_1 ++ dktX5_endCommit_2
def dkwX5_endCommit_0 : List UInt8 := [42, 180, 0, 108, 182, 1, 122, 42, 182, 1, 124, 42, 180, 0, 124, 182, 0, 244, 42, 16, 6, 42]
abbrev dktX5_endCommit_0 : List UInt8 := dkwX5_endCommit_0 ++ dktX5_endCommit_1
theorem dksX5_endCommit_0 : cX5_endCommit.data.toList.drop 0 = dktX5_endCommit_0 := by decide +kernel
theorem dksX5_endCommit_1 : cX5_endCommit.data.toList.drop 22 = dktX5_endCommit_1 := dk_seg dksX5_endCommit_0 22 rfl rfl
theorem dksX5_endCommit_2 : cX5_endCommit.data.toList.drop 45 = dktX5_endCommit_2 := dk_seg dksX5_endCommit_1 23 rfl rfl
theorem dksX5_endCommit_3 : cX5_endCommit.data.toList.drop 69 = dktX5_endCommit_3 := dk_seg dksX5_endCommit_2 24 rfl rfl
theorem dksX5_endCommit_4 : cX5_endCommit.data.toList.drop 92 = dktX5_endCommit_4 := dk_seg dksX5_endCommit_3 23 rfl rfl
theorem dksX5_endCommit_5 : cX5_endCommit.data.toList.drop 116 = dktX5_endCommit_5 := dk_seg dksX5_endCommit_4 24 rfl rfl
theorem dksX5_endCommit_6 : cX5_endCommit.data.toList.drop 139 = dktX5_endCommit_6 := dk_seg dksX5_endCommit_5 23 rfl rfl
theorem dksX5_endCommit_7 : cX5_endCommit.data.toList.drop 161 = dktX5_endCommit_7 := dk_seg dksX5_endCommit_6 22 rfl rfl
theorem dksX5_endCommit_8 : cX5_endCommit.data.toList.drop 185 = dktX5_endCommit_8 := dk_seg dksX5_endCommit_7 24 rfl rfl
theorem dksX5_endCommit_9 : cX5_endCommit.data.toList.drop 209 = dktX5_endCommit_9 := dk_seg dksX5_endCommit_8 24 rfl rfl
theorem dX5_endCommit_0 : decode cX5_endCommit 0 = .ok (.aload_n 0, 1) := dk_42 (dk_at dksX5_endCommit_0 0 rfl rfl)
theorem dX5_endCommit_1 : decode cX5_endCommit 1 = .ok (.getfield 108, 3) := dk_180 0 108 (dk_at dksX5_endCommit_0 1 rfl rfl)
theorem dX5_endCommit_4 : decode cX5_endCommit 4 = .ok (.invokevirtual 378, 3) := dk_182 1 122 (dk_at dksX5_endCommit_0 4 rfl rfl)
theorem dX5_endCommit_7 : decode cX5_endCommit 7 = .ok (.aload_n 0, 1) := dk_42 (dk_at dksX5_endCommit_0 7 rfl rfl)
theorem dX5_endCommit_8 : decode cX5_endCommit 8 = .ok (.invokevirtual 380, 3) := dk_182 1 124 (dk_at dksX5_endCommit_0 8 rfl rfl)
theorem dX5_endCommit_11 : decode cX5_endCommit 11 = .ok (.aload_n 0, 1) := dk_42 (dk_at dksX5_endCommit_0 11 rfl rfl)
theorem dX5_endCommit_12 : decode cX5_endCommit 12 = .ok (.getfield 124, 3) := dk_180 0 124 (dk_at dksX5_endCommit_0 12 rfl rfl)
theorem dX5_endCommit_15 : decode cX5_endCommit 15 = .ok (.invokevirtual 244, 3) := dk_182 0 244 (dk_at dksX5_endCommit_0 15 rfl rfl)
theorem dX5_endCommit_18 : decode cX5_endCommit 18 = .ok (.aload_n 0, 1) := dk_42 (dk_at dksX5_endCommit_0 18 rfl rfl)
theorem dX5_endCommit_19 : decode cX5_endCommit 19 = .ok (.bipush 6, 2) := dk_16 6 (dk_at dksX5_endCommit_0 19 rfl rfl)
theorem dX5_endCommit_21 : decode cX5_endCommit 21 = .ok (.aload_n 0, 1) := dk_42 (dk_at dksX5_endCommit_0 21 rfl rfl)
theorem dX5_endCommit_22 : decode cX5_endCommit 22 = .ok (.getfield 290, 3) := dk_180 1 34 (dk_at dksX5_endCommit_1 0 rfl rfl)
theorem dX5_endCommit_25 : decode cX5_endCommit 25 = .ok (.aload_n 0, 1) := dk_42 (dk_at dksX5_endCommit_1 3 rfl rfl)
theorem dX5_endCommit_26 : decode cX5_endCommit 26 = .ok (.getfield 38, 3) := dk_180 0 38 (dk_at dksX5_endCommit_1 4 rfl rfl)
theorem dX5_endCommit_29 : decode cX5_endCommit 29 = .ok (.invokevirtual 259, 3) := dk_182 1 3 (dk_at dksX5_endCommit_1 7 rfl rfl)
theorem dX5_endCommit_32 : decode cX5_endCommit 32 = .ok (.aload_n 0, 1) := dk_42 (dk_at dksX5_endCommit_1 10 rfl rfl)
theorem dX5_endCommit_33 : decode cX5_endCommit 33 = .ok (.getfield 23, 3) := dk_180 0 23 (dk_at dksX5_endCommit_1 11 rfl rfl)
theorem dX5_endCommit_36 : decode cX5_endCommit 36 = .ok (.bipush 8, 2) := dk_16 8 (dk_at dksX5_endCommit_1 14 rfl rfl)
theorem dX5_endCommit_38 : decode cX5_endCommit 38 = .ok (.aload_n 0, 1) := dk_42 (dk_at dksX5_endCommit_1 16 rfl rfl)
theorem dX5_endCommit_39 : decode cX5_endCommit 39 = .ok (.getfield 108, 3) := dk_180 0 108 (dk_at dksX5_endCommit_1 17 rfl rfl)
theorem dX5_endCommit_42 : decode cX5_endCommit 42 = .ok (.getfield 272, 3) := dk_180 1 16 (dk_at dksX5_endCommit_1 20 rfl rfl)
theorem dX5_endCommit_45 : decode cX5_endCommit 45 = .ok (.getfield 346, 3) := dk_180 1 90 (dk_at dksX5_endCommit_2 0 rfl rfl)
theorem dX5_endCommit_48 : decode cX5_endCommit 48 = .ok (.invokevirtual 257, 3) := dk_182 1 1 (dk_at dksX5_endCommit_2 3 rfl rfl)
theorem dX5_endCommit_51 : decode cX5_endCommit 51 = .ok (.bipush 12, 2) := dk_16 12 (dk_at dksX5_endCommit_2 6 rfl rfl)
theorem dX5_endCommit_53 : decode cX5_endCommit 53 = .ok (.aload_n 0, 1) := dk_42 (dk_at dksX5_endCommit_2 8 rfl rfl)
theorem dX5_endCommit_54 : decode cX5_endCommit 54 = .ok (.getfield 108, 3) := dk_180 0 108 (dk_at dksX5_endCommit_2 9 rfl rfl)
theorem dX5_endCommit_57 : decode cX5_endCommit 57 = .ok (.getfield 272, 3) := dk_180 1 16 (dk_at dksX5_endCommit_2 12 rfl rfl)
theorem dX5_endCommit_60 : decode cX5_endCommit 60 = .ok (.getfield 351, 3) := dk_180 1 95 (dk_at dksX5_endCommit_2 15 rfl rfl)
theorem dX5_endCommit_63 : decode cX5_endCommit 63 = .ok (.invokevirtual 257, 3) := dk_182 1 1 (dk_at dksX5_endCommit_2 18 rfl rfl)
theorem dX5_endCommit_66 : decode cX5_endCommit 66 = .ok (.bipush 16, 2) := dk_16 16 (dk_at dksX5_endCommit_2 21 rfl rfl)
theorem dX5_endCommit_68 : decode cX5_endCommit 68 = .ok (.aload_n 0, 1) := dk_42 (dk_at dksX5_endCommit_2 23 rfl rfl)
theorem dX5_endCommit_69 : decode cX5_endCommit 69 = .ok (.getfield 108, 3) := dk_180 0 108 (dk_at dksX5_endCommit_3 0 rfl rfl)
theorem dX5_endCommit_72 : decode cX5_endCommit 72 = .ok (.getfield 272, 3) := dk_180 1 16 (dk_at dksX5_endCommit_3 3 rfl rfl)
theorem dX5_endCommit_75 : decode cX5_endCommit 75 = .ok (.getfield 356, 3) := dk_180 1 100 (dk_at dksX5_endCommit_3 6 rfl rfl)
theorem dX5_endCommit_78 : decode cX5_endCommit 78 = .ok (.invokevirtual 257, 3) := dk_182 1 1 (dk_at dksX5_endCommit_3 9 rfl rfl)
theorem dX5_endCommit_81 : decode cX5_endCommit 81 = .ok (.bipush 20, 2) := dk_16 20 (dk_at dksX5_endCommit_3 12 rfl rfl)
theorem dX5_endCommit_83 : decode cX5_endCommit 83 = .ok (.aload_n 0, 1) := dk_42 (dk_at dksX5_endCommit_3 14 rfl rfl)
theorem dX5_endCommit_84 : decode cX5_endCommit 84 = .ok (.getfield 30, 3) := dk_180 0 30 (dk_at dksX5_endCommit_3 15 rfl rfl)
theorem dX5_endCommit_87 : decode cX5_endCommit 87 = .ok (.invokevirtual 257, 3) := dk_182 1 1 (dk_at dksX5_endCommit_3 18 rfl rfl)
theorem dX5_endCommit_90 : decode cX5_endCommit 90 = .ok (.pop, 1) := dk_87 (dk_at dksX5_endCommit_3 21 rfl rfl)
theorem dX5_endCommit_91 : decode cX5_endCommit 91 = .ok (.aload_n 0, 1) := dk_42 (dk_at dksX5_endCommit_3 22 rfl rfl)
theorem dX5_endCommit_92 : decode cX5_endCommit 92 = .ok (.getfield 23, 3) := dk_180 0 23 (dk_at dksX5_endCommit_4 0 rfl rfl)
theorem dX5_endCommit_95 : decode cX5_endCommit 95 = .ok (.bipush 24, 2) := dk_16 24 (dk_at dksX5_endCommit_4 3 rfl rfl)
theorem dX5_endCommit_97 : decode cX5_endCommit 97 = .ok (.aload_n 0, 1) := dk_42 (dk_at dksX5_endCommit_4 5 rfl rfl)
theorem dX5_endCommit_98 : decode cX5_endCommit 98 = .ok (.getfield 44, 3) := dk_180 0 44 (dk_at dksX5_endCommit_4 6 rfl rfl)
theorem dX5_endCommit_101 : decode cX5_endCommit 101 = .ok (.invokevirtual 257, 3) := dk_182 1 1 (dk_at dksX5_endCommit_4 9 rfl rfl)
theorem dX5_endCommit_104 : decode cX5_endCommit 104 = .ok (.bipush 28, 2) := dk_16 28 (dk_at dksX5_endCommit_4 12 rfl rfl)
theorem dX5_endCommit_106 : decode cX5_endCommit 106 = .ok (.aload_n 0, 1) := dk_42 (dk_at dksX5_endCommit_4 14 rfl rfl)
theorem dX5_endCommit_107 : decode cX5_endCommit 107 = .ok (.getfield 375, 3) := dk_180 1 119 (dk_at dksX5_endCommit_4 15 rfl rfl)
theorem dX5_endCommit_110 : decode cX5_endCommit 110 = .ok (.invokevirtual 257, 3) := dk_182 1 1 (dk_at dksX5_endCommit_4 18 rfl rfl)
theorem dX5_endCommit_113 : decode cX5_endCommit 113 = .ok (.bipush 32, 2) := dk_16 32 (dk_at dksX5_endCommit_4 21 rfl rfl)
theorem dX5_endCommit_115 : decode cX5_endCommit 115 = .ok (.aload_n 0, 1) := dk_42 (dk_at dksX5_endCommit_4 23 rfl rfl)
theorem dX5_endCommit_116 : decode cX5_endCommit 116 = .ok (.getfield 372, 3) := dk_180 1 116 (dk_at dksX5_endCommit_5 0 rfl rfl)
theorem dX5_endCommit_119 : decode cX5_endCommit 119 = .ok (.invokevirtual 257, 3) := dk_182 1 1 (dk_at dksX5_endCommit_5 3 rfl rfl)
theorem dX5_endCommit_122 : decode cX5_endCommit 122 = .ok (.pop, 1) := dk_87 (dk_at dksX5_endCommit_5 6 rfl rfl)
theorem dX5_endCommit_123 : decode cX5_endCommit 123 = .ok (.aload_n 0, 1) := dk_42 (dk_at dksX5_endCommit_5 7 rfl rfl)
theorem dX5_endCommit_124 : decode cX5_endCommit 124 = .ok (.getfield 23, 3) := dk_180 0 23 (dk_at dksX5_endCommit_5 8 rfl rfl)
theorem dX5_endCommit_127 : decode cX5_endCommit 127 = .ok (.aload_n 0, 1) := dk_42 (dk_at dksX5_endCommit_5 11 rfl rfl)
theorem dX5_endCommit_128 : decode cX5_endCommit 128 = .ok (.invokevirtual 212, 3) := dk_182 0 212 (dk_at dksX5_endCommit_5 12 rfl rfl)
theorem dX5_endCommit_131 : decode cX5_endCommit 131 = .ok (.iconst 1, 1) := dk_4 (dk_at dksX5_endCommit_5 15 rfl rfl)
theorem dX5_endCommit_132 : decode cX5_endCommit 132 = .ok (.invokevirtual 219, 3) := dk_182 0 219 (dk_at dksX5_endCommit_5 16 rfl rfl)
theorem dX5_endCommit_135 : decode cX5_endCommit 135 = .ok (.iconst 0, 1) := dk_3 (dk_at dksX5_endCommit_5 19 rfl rfl)
theorem dX5_endCommit_136 : decode cX5_endCommit 136 = .ok (.istore_n 1, 1) := dk_60 (dk_at dksX5_endCommit_5 20 rfl rfl)
theorem dX5_endCommit_137 : decode cX5_endCommit 137 = .ok (.iload_n 1, 1) := dk_27 (dk_at dksX5_endCommit_5 21 rfl rfl)
theorem dX5_endCommit_138 : decode cX5_endCommit 138 = .ok (.iconst 2, 1) := dk_5 (dk_at dksX5_endCommit_5 22 rfl rfl)
theorem dX5_endCommit_139 : decode cX5_endCommit 139 = .ok (.if_icmp .ge 59, 3) := dk_162 0 59 (dk_at dksX5_endCommit_6 0 rfl rfl)
theorem dX5_endCommit_142 : decode cX5_endCommit 142 = .ok (.aload_n 0, 1) := dk_42 (dk_at dksX5_endCommit_6 3 rfl rfl)
theorem dX5_endCommit_143 : decode cX5_endCommit 143 = .ok (.getfield 71, 3) := dk_180 0 71 (dk_at dksX5_endCommit_6 4 rfl rfl)
theorem dX5_endCommit_146 : decode cX5_endCommit 146 = .ok (.iload_n 1, 1) := dk_27 (dk_at dksX5_endCommit_6 7 rfl rfl)
theorem dX5_endCommit_147 : decode cX5_endCommit 147 = .ok (.invokevirtual 170, 3) := dk_182 0 170 (dk_at dksX5_endCommit_6 8 rfl rfl)
theorem dX5_endCommit_150 : decode cX5_endCommit 150 = .ok (.aload_n 0, 1) := dk_42 (dk_at dksX5_endCommit_6 11 rfl rfl)
theorem dX5_endCommit_151 : decode cX5_endCommit 151 = .ok (.getfield 71, 3) := dk_180 0 71 (dk_at dksX5_endCommit_6 12 rfl rfl)
theorem dX5_endCommit_154 : decode cX5_endCommit 154 = .ok (.invokevirtual 383, 3) := dk_182 1 127 (dk_at dksX5_endCommit_6 15 rfl rfl)
theorem dX5_endCommit_157 : decode cX5_endCommit 157 = .ok (.if_icmp .ne 11, 3) := dk_160 0 11 (dk_at dksX5_endCommit_6 18 rfl rfl)
theorem dX5_endCommit_160 : decode cX5_endCommit 160 = .ok (.aload_n 0, 1) := dk_42 (dk_at dksX5_endCommit_6 21 rfl rfl)
theorem dX5_endCommit_161 : decode cX5_endCommit 161 = .ok (.getfield 71, 3) := dk_180 0 71 (dk_at dksX5_endCommit_7 0 rfl rfl)
theorem dX5_endCommit_164 : decode cX5_endCommit 164 = .ok (.iload_n 1, 1) := dk_27 (dk_at dksX5_endCommit_7 3 rfl rfl)
theorem dX5_endCommit_165 : decode cX5_endCommit 165 = .ok (.invokevirtual 287, 3) := dk_182 1 31 (dk_at dksX5_endCommit_7 4 rfl rfl)
theorem dX5_endCommit_168 : decode cX5_endCommit 168 = .ok (.aload_n 0, 1) := dk_42 (dk_at dksX5_endCommit_7 7 rfl rfl)
theorem dX5_endCommit_169 : decode cX5_endCommit 169 = .ok (.getfield 71, 3) := dk_180 0 71 (dk_at dksX5_endCommit_7 8 rfl rfl)
theorem dX5_endCommit_172 : decode cX5_endCommit 172 = .ok (.iload_n 1, 1) := dk_27 (dk_at dksX5_endCommit_7 11 rfl rfl)
theorem dX5_endCommit_173 : decode cX5_endCommit 173 = .ok (.aload_n 0, 1) := dk_42 (dk_at dksX5_endCommit_7 12 rfl rfl)
theorem dX5_endCommit_174 : decode cX5_endCommit 174 = .ok (.getfield 71, 3) := dk_180 0 71 (dk_at dksX5_endCommit_7 13 rfl rfl)
theorem dX5_endCommit_177 : decode cX5_endCommit 177 = .ok (.iload_n 1, 1) := dk_27 (dk_at dksX5_endCommit_7 16 rfl rfl)
theorem dX5_endCommit_178 : decode cX5_endCommit 178 = .ok (.invokevirtual 170, 3) := dk_182 0 170 (dk_at dksX5_endCommit_7 17 rfl rfl)
theorem dX5_endCommit_181 : decode cX5_endCommit 181 = .ok (.aload_n 0, 1) := dk_42 (dk_at dksX5_endCommit_7 20 rfl rfl)
theorem dX5_endCommit_182 : decode cX5_endCommit 182 = .ok (.getfield 23, 3) := dk_180 0 23 (dk_at dksX5_endCommit_7 21 rfl rfl)
theorem dX5_endCommit_185 : decode cX5_endCommit 185 = .ok (.getfield 158, 3) := dk_180 0 158 (dk_at dksX5_endCommit_8 0 rfl rfl)
theorem dX5_endCommit_188 : decode cX5_endCommit 188 = .ok (.iconst 0, 1) := dk_3 (dk_at dksX5_endCommit_8 3 rfl rfl)
theorem dX5_endCommit_189 : decode cX5_endCommit 189 = .ok (.invokevirtual 266, 3) := dk_182 1 10 (dk_at dksX5_endCommit_8 4 rfl rfl)
theorem dX5_endCommit_192 : decode cX5_endCommit 192 = .ok (.iinc 1 1, 3) := dk_132 1 1 (dk_at dksX5_endCommit_8 7 rfl rfl)
theorem dX5_endCommit_195 : decode cX5_endCommit 195 = .ok (.goto (-58), 3) := dk_167 255 198 (dk_at dksX5_endCommit_8 10 rfl rfl)
theorem dX5_endCommit_198 : decode cX5_endCommit 198 = .ok (.aload_n 0, 1) := dk_42 (dk_at dksX5_endCommit_8 13 rfl rfl)
theorem dX5_endCommit_199 : decode cX5_endCommit 199 = .ok (.getfield 71, 3) := dk_180 0 71 (dk_at dksX5_endCommit_8 14 rfl rfl)
theorem dX5_endCommit_202 : decode cX5_endCommit 202 = .ok (.aload_n 0, 1) := dk_42 (dk_at dksX5_endCommit_8 17 rfl rfl)
theorem dX5_endCommit_203 : decode cX5_endCommit 203 = .ok (.getfield 284, 3) := dk_180 1 28 (dk_at dksX5_endCommit_8 18 rfl rfl)
theorem dX5_endCommit_206 : decode cX5_endCommit 206 = .ok (.invokevirtual 287, 3) := dk_182 1 31 (dk_at dksX5_endCommit_8 21 rfl rfl)
theorem dX5_endCommit_209 : decode cX5_endCommit 209 = .ok (.aload_n 0, 1) := dk_42 (dk_at dksX5_endCommit_9 0 rfl rfl)
theorem dX5_endCommit_210 : decode cX5_endCommit 210 = .ok (.getfield 79, 3) := dk_180 0 79 (dk_at dksX5_endCommit_9 1 rfl rfl)
theorem dX5_endCommit_213 : decode cX5_endCommit 213 = .ok (.invokevirtual 386, 3) := dk_182 1 130 (dk_at dksX5_endCommit_9 4 rfl rfl)
theorem dX5_endCommit_216 : decode cX5_endCommit 216 = .ok (.aload_n 0, 1) := dk_42 (dk_at dksX5_endCommit_9 7 rfl rfl)
theorem dX5_endCommit_217 : decode cX5_endCommit 217 = .ok (.iconst 0, 1) := dk_3 (dk_at dksX5_endCommit_9 8 rfl rfl)
theorem dX5_endCommit_218 : decode cX5_endCommit 218 = .ok (.putfield 308, 3) := dk_181 1 52 (dk_at dksX5_endCommit_9 9 rfl rfl)
theorem dX5_endCommit_221 : decode cX5_endCommit 221 = .ok (.aload_n 0, 1) := dk_42 (dk_at dksX5_endCommit_9 12 rfl rfl)
theorem dX5_endCommit_222 : decode cX5_endCommit 222 = .ok (.iconst (-1), 1) := dk_2 (dk_at dksX5_endCommit_9 13 rfl rfl)
theorem dX5_endCommit_223 : decode cX5_endCommit 223 = .ok (.putfield 58, 3) := dk_181 0 58 (dk_at dksX5_endCommit_9 14 rfl rfl)
theorem dX5_endCommit_226 : decode cX5_endCommit 226 = .ok (.aload_n 0, 1) := dk_42 (dk_at dksX5_endCommit_9 17 rfl rfl)
theorem dX5_endCommit_227 : decode cX5_endCommit 227 = .ok (.iconst 0, 1) := dk_3 (dk_at dksX5_endCommit_9 18 rfl rfl)
theorem dX5_endCommit_228 : decode cX5_endCommit 228 = .ok (.putfield 389, 3) := dk_181 1 133 (dk_at dksX5_endCommit_9 19 rfl rfl)
theorem dX5_endCommit_231 : decode cX5_endCommit 231 = .ok (.return_, 1) := dk_177 (dk_at dksX5_endCommit_9 22 rfl rfl)
abbrev cX5_writeTable : ByteArray := prog_9_method_20_code
def yX5_writeTable : MethodName := ⟨RX5, "writeTable", "()V"⟩
def dkwX5_writeTable_8 : List UInt8 := [181, 1, 119, 177]
abbrev dktX5_writeTable_8 : List UInt8 := dkwX5_writeTable_8 ++ []
def dkwX5_writeTable_7 : List UInt8 := [182, 0, 219, 42, 42, 180, 0, 124, 42, 180, 0, 20, 180, 0, 158, 3, 42, 180, 1, 116, 182, 0, 199]
abbrev dktX5_writeTable_7 : List UInt8 := dkwX5_writeTable_7 ++ dktX5_writeTable_8
def dkwX5_writeTable_6 : List UInt8 := [180, 1, 107, 27, 46, 182, 1, 1, 87, 132, 1, 1, 167, 255, 214, 42, 180, 0, 20, 42, 182, 0, 212, 4]
abbrev dktX5_writeTable_6 : List UInt8 := dkwX5_writeTable_6 ++ dktX5_writeTable_7
def dkwX5_writeTable_5 : List UInt8 := [162, 0, 37, 42, 180, 0, 20, 7, 27, 42, 180, 0, 79, 180, 0, 86, 100, 104, 42, 180, 0, 79]
abbrev dktX5_writeTable_5 : List UInt8 := dkwX5_writeTable_5 ++ dktX5_writeTable_6
def dkwX5_writeTable_4 : List UInt8 := [42, 180, 1, 116, 182, 0, 253, 87, 42, 180, 0, 79, 180, 0, 86, 60, 27, 42, 180, 0, 71, 180, 0, 83]
abbrev dktX5_writeTable_4 : List UInt8 := dkwX5_writeTable_4 ++ dktX5_writeTable_5
def dkwX5_writeTable_3 : List UInt8 := [180, 0, 44, 92, 46, 42, 180, 1, 116, 96, 79, 42, 180, 0, 20, 182, 0, 145, 42, 180, 0, 20, 16, 10]
abbrev dktX5_writeTable_3 : List UInt8 := dkwX5_writeTable_3 ++ dktX5_writeTable_4
def dkwX5_writeTable_2 : List UInt8 := [182, 1, 103, 42, 42, 180, 0, 124, 180, 0, 131, 181, 0, 44, 42, 180, 0, 79, 180, 1, 107, 42]
abbrev dktX5_writeTable_2 : List UInt8 := dkwX5_writeTable_2 ++ dktX5_writeTable_3
def dkwX5_writeTable_1 : List UInt8 := [180, 1, 116, 100, 79, 42, 42, 180, 0, 93, 181, 1, 116, 42, 42, 180, 0, 124, 42, 180, 1, 116]
abbrev dktX5_writeTable_1 : List UInt8 := dkwX5_writeTable_1 ++ dktX5_writeTable_2
def dkwX5_writeTable_0 : List UInt8 := [42, 180, 0, 44, 2, 159, 0, 22, 42, 180, 0, 79, 180, 1, 107, 42, 180, 0, 44, 92, 46, 42]
abbrev dktX5_writeTable_0 : List UInt8 := dkwX5_writeTable_0 ++ dktX5_writeTable_1
theorem dksX5_writeTable_0 : cX5_writeTable.data.toList.drop 0 = dktX5_writeTable_0 := by decide +kernel
theorem dksX5_writeTable_1 : cX5_writeTable.data.toList.drop 22 = dktX5_writeTable_1 := dk_seg dksX5_writeTable_0 22 rfl rfl
theorem dksX5_writeTable_2 : cX5_writeTable.data.toList.drop 44 = dktX5_writeTable_2 := dk_seg dksX5_writeTable_1 22 rfl rfl
theorem dksX5_writeTable_3 : cX5_writeTable.data.toList.drop 66 = dktX5_writeTable_3 := dk_seg dksX5_writeTable_2 22 rfl rfl
theorem dksX5_writeTable_4 : cX5_writeTable.data.toList.drop 90 = dktX5_writeTable_4 := dk_seg dksX5_writeTable_3 24 rfl rfl
theorem dksX5_writeTable_5 : cX5_writeTable.data.toList.drop 114 = dktX5_writeTable_5 := dk_seg dksX5_writeTable_4 24 rfl rfl
theorem dksX5_writeTable_6 : cX5_writeTable.data.toList.drop 136 = dktX5_writeTable_6 := dk_seg dksX5_writeTable_5 22 rfl rfl
theorem dksX5_writeTable_7 : cX5_writeTable.data.toList.drop 160 = dktX5_writeTable_7 := dk_seg dksX5_writeTable_6 24 rfl rfl
theorem dksX5_writeTable_8 : cX5_writeTable.data.toList.drop 183 = dktX5_writeTable_8 := dk_seg dksX5_writeTable_7 23 rfl rfl
theorem dX5_writeTable_0 : decode cX5_writeTable 0 = .ok (.aload_n 0, 1) := dk_42 (dk_at dksX5_writeTable_0 0 rfl rfl)
theorem dX5_writeTable_1 : decode cX5_writeTable 1 = .ok (.getfield 44, 3) := dk_180 0 44 (dk_at dksX5_writeTable_0 1 rfl rfl)
theorem dX5_writeTable_4 : decode cX5_writeTable 4 = .ok (.iconst (-1), 1) := dk_2 (dk_at dksX5_writeTable_0 4 rfl rfl)
theorem dX5_writeTable_5 : decode cX5_writeTable 5 = .ok (.if_icmp .eq 22, 3) := dk_159 0 22 (dk_at dksX5_writeTable_0 5 rfl rfl)
theorem dX5_writeTable_8 : decode cX5_writeTable 8 = .ok (.aload_n 0, 1) := dk_42 (dk_at dksX5_writeTable_0 8 rfl rfl)
theorem dX5_writeTable_9 : decode cX5_writeTable 9 = .ok (.getfield 79, 3) := dk_180 0 79 (dk_at dksX5_writeTable_0 9 rfl rfl)
theorem dX5_writeTable_12 : decode cX5_writeTable 12 = .ok (.getfield 363, 3) := dk_180 1 107 (dk_at dksX5_writeTable_0 12 rfl rfl)
theorem dX5_writeTable_15 : decode cX5_writeTable 15 = .ok (.aload_n 0, 1) := dk_42 (dk_at dksX5_writeTable_0 15 rfl rfl)
theorem dX5_writeTable_16 : decode cX5_writeTable 16 = .ok (.getfield 44, 3) := dk_180 0 44 (dk_at dksX5_writeTable_0 16 rfl rfl)
theorem dX5_writeTable_19 : decode cX5_writeTable 19 = .ok (.dup2, 1) := dk_92 (dk_at dksX5_writeTable_0 19 rfl rfl)
theorem dX5_writeTable_20 : decode cX5_writeTable 20 = .ok (.iaload, 1) := dk_46 (dk_at dksX5_writeTable_0 20 rfl rfl)
theorem dX5_writeTable_21 : decode cX5_writeTable 21 = .ok (.aload_n 0, 1) := dk_42 (dk_at dksX5_writeTable_0 21 rfl rfl)
theorem dX5_writeTable_22 : decode cX5_writeTable 22 = .ok (.getfield 372, 3) := dk_180 1 116 (dk_at dksX5_writeTable_1 0 rfl rfl)
theorem dX5_writeTable_25 : decode cX5_writeTable 25 = .ok (.isub, 1) := dk_100 (dk_at dksX5_writeTable_1 3 rfl rfl)
theorem dX5_writeTable_26 : decode cX5_writeTable 26 = .ok (.iastore, 1) := dk_79 (dk_at dksX5_writeTable_1 4 rfl rfl)
theorem dX5_writeTable_27 : decode cX5_writeTable 27 = .ok (.aload_n 0, 1) := dk_42 (dk_at dksX5_writeTable_1 5 rfl rfl)
theorem dX5_writeTable_28 : decode cX5_writeTable 28 = .ok (.aload_n 0, 1) := dk_42 (dk_at dksX5_writeTable_1 6 rfl rfl)
theorem dX5_writeTable_29 : decode cX5_writeTable 29 = .ok (.getfield 93, 3) := dk_180 0 93 (dk_at dksX5_writeTable_1 7 rfl rfl)
theorem dX5_writeTable_32 : decode cX5_writeTable 32 = .ok (.putfield 372, 3) := dk_181 1 116 (dk_at dksX5_writeTable_1 10 rfl rfl)
theorem dX5_writeTable_35 : decode cX5_writeTable 35 = .ok (.aload_n 0, 1) := dk_42 (dk_at dksX5_writeTable_1 13 rfl rfl)
theorem dX5_writeTable_36 : decode cX5_writeTable 36 = .ok (.aload_n 0, 1) := dk_42 (dk_at dksX5_writeTable_1 14 rfl rfl)
theorem dX5_writeTable_37 : decode cX5_writeTable 37 = .ok (.getfield 124, 3) := dk_180 0 124 (dk_at dksX5_writeTable_1 15 rfl rfl)
theorem dX5_writeTable_40 : decode cX5_writeTable 40 = .ok (.aload_n 0, 1) := dk_42 (dk_at dksX5_writeTable_1 18 rfl rfl)
theorem dX5_writeTable_41 : decode cX5_writeTable 41 = .ok (.getfield 372, 3) := dk_180 1 116 (dk_at dksX5_writeTable_1 19 rfl rfl)
theorem dX5_writeTable_44 : decode cX5_writeTable 44 = .ok (.invokevirtual 359, 3) := dk_182 1 103 (dk_at dksX5_writeTable_2 0 rfl rfl)
theorem dX5_writeTable_47 : decode cX5_writeTable 47 = .ok (.aload_n 0, 1) := dk_42 (dk_at dksX5_writeTable_2 3 rfl rfl)
theorem dX5_writeTable_48 : decode cX5_writeTable 48 = .ok (.aload_n 0, 1) := dk_42 (dk_at dksX5_writeTable_2 4 rfl rfl)
theorem dX5_writeTable_49 : decode cX5_writeTable 49 = .ok (.getfield 124, 3) := dk_180 0 124 (dk_at dksX5_writeTable_2 5 rfl rfl)
theorem dX5_writeTable_52 : decode cX5_writeTable 52 = .ok (.getfield 131, 3) := dk_180 0 131 (dk_at dksX5_writeTable_2 8 rfl rfl)
theorem dX5_writeTable_55 : decode cX5_writeTable 55 = .ok (.putfield 44, 3) := dk_181 0 44 (dk_at dksX5_writeTable_2 11 rfl rfl)
theorem dX5_writeTable_58 : decode cX5_writeTable 58 = .ok (.aload_n 0, 1) := dk_42 (dk_at dksX5_writeTable_2 14 rfl rfl)
theorem dX5_writeTable_59 : decode cX5_writeTable 59 = .ok (.getfield 79, 3) := dk_180 0 79 (dk_at dksX5_writeTable_2 15 rfl rfl)
theorem dX5_writeTable_62 : decode cX5_writeTable 62 = .ok (.getfield 363, 3) := dk_180 1 107 (dk_at dksX5_writeTable_2 18 rfl rfl)
theorem dX5_writeTable_65 : decode cX5_writeTable 65 = .ok (.aload_n 0, 1) := dk_42 (dk_at dksX5_writeTable_2 21 rfl rfl)
theorem dX5_writeTable_66 : decode cX5_writeTable 66 = .ok (.getfield 44, 3) := dk_180 0 44 (dk_at dksX5_writeTable_3 0 rfl rfl)
theorem dX5_writeTable_69 : decode cX5_writeTable 69 = .ok (.dup2, 1) := dk_92 (dk_at dksX5_writeTable_3 3 rfl rfl)
theorem dX5_writeTable_70 : decode cX5_writeTable 70 = .ok (.iaload, 1) := dk_46 (dk_at dksX5_writeTable_3 4 rfl rfl)
theorem dX5_writeTable_71 : decode cX5_writeTable 71 = .ok (.aload_n 0, 1) := dk_42 (dk_at dksX5_writeTable_3 5 rfl rfl)
theorem dX5_writeTable_72 : decode cX5_writeTable 72 = .ok (.getfield 372, 3) := dk_180 1 116 (dk_at dksX5_writeTable_3 6 rfl rfl)
theorem dX5_writeTable_75 : decode cX5_writeTable 75 = .ok (.iadd, 1) := dk_96 (dk_at dksX5_writeTable_3 9 rfl rfl)
theorem dX5_writeTable_76 : decode cX5_writeTable 76 = .ok (.iastore, 1) := dk_79 (dk_at dksX5_writeTable_3 10 rfl rfl)
theorem dX5_writeTable_77 : decode cX5_writeTable 77 = .ok (.aload_n 0, 1) := dk_42 (dk_at dksX5_writeTable_3 11 rfl rfl)
theorem dX5_writeTable_78 : decode cX5_writeTable 78 = .ok (.getfield 20, 3) := dk_180 0 20 (dk_at dksX5_writeTable_3 12 rfl rfl)
theorem dX5_writeTable_81 : decode cX5_writeTable 81 = .ok (.invokevirtual 145, 3) := dk_182 0 145 (dk_at dksX5_writeTable_3 15 rfl rfl)
theorem dX5_writeTable_84 : decode cX5_writeTable 84 = .ok (.aload_n 0, 1) := dk_42 (dk_at dksX5_writeTable_3 18 rfl rfl)
theorem dX5_writeTable_85 : decode cX5_writeTable 85 = .ok (.getfield 20, 3) := dk_180 0 20 (dk_at dksX5_writeTable_3 19 rfl rfl)
theorem dX5_writeTable_88 : decode cX5_writeTable 88 = .ok (.bipush 10, 2) := dk_16 10 (dk_at dksX5_writeTable_3 22 rfl rfl)
theorem dX5_writeTable_90 : decode cX5_writeTable 90 = .ok (.aload_n 0, 1) := dk_42 (dk_at dksX5_writeTable_4 0 rfl rfl)
theorem dX5_writeTable_91 : decode cX5_writeTable 91 = .ok (.getfield 372, 3) := dk_180 1 116 (dk_at dksX5_writeTable_4 1 rfl rfl)
theorem dX5_writeTable_94 : decode cX5_writeTable 94 = .ok (.invokevirtual 253, 3) := dk_182 0 253 (dk_at dksX5_writeTable_4 4 rfl rfl)
theorem dX5_writeTable_97 : decode cX5_writeTable 97 = .ok (.pop, 1) := dk_87 (dk_at dksX5_writeTable_4 7 rfl rfl)
theorem dX5_writeTable_98 : decode cX5_writeTable 98 = .ok (.aload_n 0, 1) := dk_42 (dk_at dksX5_writeTable_4 8 rfl rfl)
theorem dX5_writeTable_99 : decode cX5_writeTable 99 = .ok (.getfield 79, 3) := dk_180 0 79 (dk_at dksX5_writeTable_4 9 rfl rfl)
theorem dX5_writeTable_102 : decode cX5_writeTable 102 = .ok (.getfield 86, 3) := dk_180 0 86 (dk_at dksX5_writeTable_4 12 rfl rfl)
theorem dX5_writeTable_105 : decode cX5_writeTable 105 = .ok (.istore_n 1, 1) := dk_60 (dk_at dksX5_writeTable_4 15 rfl rfl)
theorem dX5_writeTable_106 : decode cX5_writeTable 106 = .ok (.iload_n 1, 1) := dk_27 (dk_at dksX5_writeTable_4 16 rfl rfl)
theorem dX5_writeTable_107 : decode cX5_writeTable 107 = .ok (.aload_n 0, 1) := dk_42 (dk_at dksX5_writeTable_4 17 rfl rfl)
theorem dX5_writeTable_108 : decode cX5_writeTable 108 = .ok (.getfield 71, 3) := dk_180 0 71 (dk_at dksX5_writeTable_4 18 rfl rfl)
theorem dX5_writeTable_111 : decode cX5_writeTable 111 = .ok (.getfield 83, 3) := dk_180 0 83 (dk_at dksX5_writeTable_4 21 rfl rfl)
theorem dX5_writeTable_114 : decode cX5_writeTable 114 = .ok (.if_icmp .ge 37, 3) := dk_162 0 37 (dk_at dksX5_writeTable_5 0 rfl rfl)
theorem dX5_writeTable_117 : decode cX5_writeTable 117 = .ok (.aload_n 0, 1) := dk_42 (dk_at dksX5_writeTable_5 3 rfl rfl)
theorem dX5_writeTable_118 : decode cX5_writeTable 118 = .ok (.getfield 20, 3) := dk_180 0 20 (dk_at dksX5_writeTable_5 4 rfl rfl)
theorem dX5_writeTable_121 : decode cX5_writeTable 121 = .ok (.iconst 4, 1) := dk_7 (dk_at dksX5_writeTable_5 7 rfl rfl)
theorem dX5_writeTable_122 : decode cX5_writeTable 122 = .ok (.iload_n 1, 1) := dk_27 (dk_at dksX5_writeTable_5 8 rfl rfl)
theorem dX5_writeTable_123 : decode cX5_writeTable 123 = .ok (.aload_n 0, 1) := dk_42 (dk_at dksX5_writeTable_5 9 rfl rfl)
theorem dX5_writeTable_124 : decode cX5_writeTable 124 = .ok (.getfield 79, 3) := dk_180 0 79 (dk_at dksX5_writeTable_5 10 rfl rfl)
theorem dX5_writeTable_127 : decode cX5_writeTable 127 = .ok (.getfield 86, 3) := dk_180 0 86 (dk_at dksX5_writeTable_5 13 rfl rfl)
theorem dX5_writeTable_130 : decode cX5_writeTable 130 = .ok (.isub, 1) := dk_100 (dk_at dksX5_writeTable_5 16 rfl rfl)
theorem dX5_writeTable_131 : decode cX5_writeTable 131 = .ok (.imul, 1) := dk_104 (dk_at dksX5_writeTable_5 17 rfl rfl)
theorem dX5_writeTable_132 : decode cX5_writeTable 132 = .ok (.aload_n 0, 1) := dk_42 (dk_at dksX5_writeTable_5 18 rfl rfl)
theorem dX5_writeTable_133 : decode cX5_writeTable 133 = .ok (.getfield 79, 3) := dk_180 0 79 (dk_at dksX5_writeTable_5 19 rfl rfl)
theorem dX5_writeTable_136 : decode cX5_writeTable 136 = .ok (.getfield 363, 3) := dk_180 1 107 (dk_at dksX5_writeTable_6 0 rfl rfl)
theorem dX5_writeTable_139 : decode cX5_writeTable 139 = .ok (.iload_n 1, 1) := dk_27 (dk_at dksX5_writeTable_6 3 rfl rfl)
theorem dX5_writeTable_140 : decode cX5_writeTable 140 = .ok (.iaload, 1) := dk_46 (dk_at dksX5_writeTable_6 4 rfl rfl)
theorem dX5_writeTable_141 : decode cX5_writeTable 141 = .ok (.invokevirtual 257, 3) := dk_182 1 1 (dk_at dksX5_writeTable_6 5 rfl rfl)
theorem dX5_writeTable_144 : decode cX5_writeTable 144 = .ok (.pop, 1) := dk_87 (dk_at dksX5_writeTable_6 8 rfl rfl)
theorem dX5_writeTable_145 : decode cX5_writeTable 145 = .ok (.iinc 1 1, 3) := dk_132 1 1 (dk_at dksX5_writeTable_6 9 rfl rfl)
theorem dX5_writeTable_148 : decode cX5_writeTable 148 = .ok (.goto (-42), 3) := dk_167 255 214 (dk_at dksX5_writeTable_6 12 rfl rfl)
theorem dX5_writeTable_151 : decode cX5_writeTable 151 = .ok (.aload_n 0, 1) := dk_42 (dk_at dksX5_writeTable_6 15 rfl rfl)
theorem dX5_writeTable_152 : decode cX5_writeTable 152 = .ok (.getfield 20, 3) := dk_180 0 20 (dk_at dksX5_writeTable_6 16 rfl rfl)
theorem dX5_writeTable_155 : decode cX5_writeTable 155 = .ok (.aload_n 0, 1) := dk_42 (dk_at dksX5_writeTable_6 19 rfl rfl)
theorem dX5_writeTable_156 : decode cX5_writeTable 156 = .ok (.invokevirtual 212, 3) := dk_182 0 212 (dk_at dksX5_writeTable_6 20 rfl rfl)
theorem dX5_writeTable_159 : decode cX5_writeTable 159 = .ok (.iconst 1, 1) := dk_4 (dk_at dksX5_writeTable_6 23 rfl rfl)
theorem dX5_writeTable_160 : decode cX5_writeTable 160 = .ok (.invokevirtual 219, 3) := dk_182 0 219 (dk_at dksX5_writeTable_7 0 rfl rfl)
theorem dX5_writeTable_163 : decode cX5_writeTable 163 = .ok (.aload_n 0, 1) := dk_42 (dk_at dksX5_writeTable_7 3 rfl rfl)
theorem dX5_writeTable_164 : decode cX5_writeTable 164 = .ok (.aload_n 0, 1) := dk_42 (dk_at dksX5_writeTable_7 4 rfl rfl)
theorem dX5_writeTable_165 : decode cX5_writeTable 165 = .ok (.getfield 124, 3) := dk_180 0 124 (dk_at dksX5_writeTable_7 5 rfl rfl)
theorem dX5_writeTable_168 : decode cX5_writeTable 168 = .ok (.aload_n 0, 1) := dk_42 (dk_at dksX5_writeTable_7 8 rfl rfl)
theorem dX5_writeTable_169 : decode cX5_writeTable 169 = .ok (.getfield 20, 3) := dk_180 0 20 (dk_at dksX5_writeTable_7 9 rfl rfl)
theorem dX5_writeTable_172 : decode cX5_writeTable 172 = .ok (.getfield 158, 3) := dk_180 0 158 (dk_at dksX5_writeTable_7 12 rfl rfl)
theorem dX5_writeTable_175 : decode cX5_writeTable 175 = .ok (.iconst 0, 1) := dk_3 (dk_at dksX5_writeTable_7 15 rfl rfl)
theorem dX5_writeTable_176 : decode cX5_writeTable 176 = .ok (.aload_n 0, 1) := dk_42 (dk_at dksX5_writeTable_7 16 rfl rfl)
theorem dX5_writeTable_177 : decode cX5_writeTable 177 = .ok (.getfield 372, 3) := dk_180 1 116 (dk_at dksX5_writeTable_7 17 rfl rfl)
theorem dX5_writeTable_180 : decode cX5_writeTable 180 = .ok (.invokevirtual 199, 3) := dk_182 0 199 (dk_at dksX5_writeTable_7 20 rfl rfl)
theorem dX5_writeTable_183 : decode cX5_writeTable 183 = .ok (.putfield 375, 3) := dk_181 1 119 (dk_at dksX5_writeTable_8 0 rfl rfl)
theorem dX5_writeTable_186 : decode cX5_writeTable 186 = .ok (.return_, 1) := dk_177 (dk_at dksX5_writeTable_8 3 rfl rfl)
abbrev cX5_sheetOf : ByteArray := prog_9_method_13_code
def yX5_sheetOf : MethodName := ⟨RX5, "sheetOf", "(III)V"⟩
def dkwX5_sheetOf_1 : List UInt8 := [16, 64, 182, 0, 253, 3, 28, 182, 1, 1, 7, 29, 182, 1, 1, 87, 177]
abbrev dktX5_sheetOf_1 : List UInt8 := dkwX5_sheetOf_1 ++ []
def dkwX5_sheetOf_0 : List UInt8 := [42, 180, 0, 23, 180, 0, 158, 3, 184, 0, 247, 42, 180, 0, 23, 182, 0, 145, 42, 180, 0, 23, 27]
abbrev dktX5_sheetOf_0 : List UInt8 := dkwX5_sheetOf_0 ++ dktX5_sheetOf_1
theorem dksX5_sheetOf_0 : cX5_sheetOf.data.toList.drop 0 = dktX5_sheetOf_0 := by decide +kernel
theorem dksX5_sheetOf_1 : cX5_sheetOf.data.toList.drop 23 = dktX5_sheetOf_1 := dk_seg dksX5_sheetOf_0 23 rfl rfl
theorem dX5_sheetOf_0 : decode cX5_sheetOf 0 = .ok (.aload_n 0, 1) := dk_42 (dk_at dksX5_sheetOf_0 0 rfl rfl)
theorem dX5_sheetOf_1 : decode cX5_sheetOf 1 = .ok (.getfield 23, 3) := dk_180 0 23 (dk_at dksX5_sheetOf_0 1 rfl rfl)
theorem dX5_sheetOf_4 : decode cX5_sheetOf 4 = .ok (.getfield 158, 3) := dk_180 0 158 (dk_at dksX5_sheetOf_0 4 rfl rfl)
theorem dX5_sheetOf_7 : decode cX5_sheetOf 7 = .ok (.iconst 0, 1) := dk_3 (dk_at dksX5_sheetOf_0 7 rfl rfl)
theorem dX5_sheetOf_8 : decode cX5_sheetOf 8 = .ok (.invokestatic 247, 3) := dk_184 0 247 (dk_at dksX5_sheetOf_0 8 rfl rfl)
theorem dX5_sheetOf_11 : decode cX5_sheetOf 11 = .ok (.aload_n 0, 1) := dk_42 (dk_at dksX5_sheetOf_0 11 rfl rfl)
theorem dX5_sheetOf_12 : decode cX5_sheetOf 12 = .ok (.getfield 23, 3) := dk_180 0 23 (dk_at dksX5_sheetOf_0 12 rfl rfl)
theorem dX5_sheetOf_15 : decode cX5_sheetOf 15 = .ok (.invokevirtual 145, 3) := dk_182 0 145 (dk_at dksX5_sheetOf_0 15 rfl rfl)
theorem dX5_sheetOf_18 : decode cX5_sheetOf 18 = .ok (.aload_n 0, 1) := dk_42 (dk_at dksX5_sheetOf_0 18 rfl rfl)
theorem dX5_sheetOf_19 : decode cX5_sheetOf 19 = .ok (.getfield 23, 3) := dk_180 0 23 (dk_at dksX5_sheetOf_0 19 rfl rfl)
theorem dX5_sheetOf_22 : decode cX5_sheetOf 22 = .ok (.iload_n 1, 1) := dk_27 (dk_at dksX5_sheetOf_0 22 rfl rfl)
theorem dX5_sheetOf_23 : decode cX5_sheetOf 23 = .ok (.bipush 64, 2) := dk_16 64 (dk_at dksX5_sheetOf_1 0 rfl rfl)
theorem dX5_sheetOf_25 : decode cX5_sheetOf 25 = .ok (.invokevirtual 253, 3) := dk_182 0 253 (dk_at dksX5_sheetOf_1 2 rfl rfl)
theorem dX5_sheetOf_28 : decode cX5_sheetOf 28 = .ok (.iconst 0, 1) := dk_3 (dk_at dksX5_sheetOf_1 5 rfl rfl)
theorem dX5_sheetOf_29 : decode cX5_sheetOf 29 = .ok (.iload_n 2, 1) := dk_28 (dk_at dksX5_sheetOf_1 6 rfl rfl)
theorem dX5_sheetOf_30 : decode cX5_sheetOf 30 = .ok (.invokevirtual 257, 3) := dk_182 1 1 (dk_at dksX5_sheetOf_1 7 rfl rfl)
theorem dX5_sheetOf_33 : decode cX5_sheetOf 33 = .ok (.iconst 4, 1) := dk_7 (dk_at dksX5_sheetOf_1 10 rfl rfl)
theorem dX5_sheetOf_34 : decode cX5_sheetOf 34 = .ok (.iload_n 3, 1) := dk_29 (dk_at dksX5_sheetOf_1 11 rfl rfl)
theorem dX5_sheetOf_35 : decode cX5_sheetOf 35 = .ok (.invokevirtual 257, 3) := dk_182 1 1 (dk_at dksX5_sheetOf_1 12 rfl rfl)
theorem dX5_sheetOf_38 : decode cX5_sheetOf 38 = .ok (.pop, 1) := dk_87 (dk_at dksX5_sheetOf_1 15 rfl rfl)
theorem dX5_sheetOf_39 : decode cX5_sheetOf 39 = .ok (.return_, 1) := dk_177 (dk_at dksX5_sheetOf_1 16 rfl rfl)
abbrev cX5_beginCommit : ByteArray := prog_9_method_15_code
def yX5_beginCommit : MethodName := ⟨RX5, "beginCommit", "()V"⟩
def dkwX5_beginCommit_12 : List UInt8 := [180, 1, 16, 182, 1, 49, 42, 4, 181, 1, 52, 177]
abbrev dktX5_beginCommit_12 : List UInt8 := dkwX5_beginCommit_12 ++ []
def dkwX5_beginCommit_11 : List UInt8 := [180, 0, 117, 180, 0, 134, 182, 0, 238, 42, 3, 181, 1, 43, 42, 3, 181, 1, 46, 42, 42, 180, 0, 108]
abbrev dktX5_beginCommit_11 : List UInt8 := dkwX5_beginCommit_11 ++ dktX5_beginCommit_12
def dkwX5_beginCommit_10 : List UInt8 := [181, 0, 226, 42, 180, 0, 117, 180, 0, 131, 2, 159, 0, 21, 42, 42, 180, 0, 117, 180, 0, 131, 42]
abbrev dktX5_beginCommit_10 : List UInt8 := dkwX5_beginCommit_10 ++ dktX5_beginCommit_11
def dkwX5_beginCommit_9 : List UInt8 := [180, 0, 79, 180, 1, 40, 42, 180, 0, 41, 27, 46, 4, 79, 132, 1, 1, 167, 255, 214, 42, 3]
abbrev dktX5_beginCommit_9 : List UInt8 := dkwX5_beginCommit_9 ++ dktX5_beginCommit_10
def dkwX5_beginCommit_8 : List UInt8 := [180, 0, 226, 162, 0, 40, 42, 180, 0, 41, 27, 46, 42, 180, 0, 117, 180, 0, 131, 159, 0, 18, 42]
abbrev dktX5_beginCommit_8 : List UInt8 := dkwX5_beginCommit_8 ++ dktX5_beginCommit_9
def dkwX5_beginCommit_7 : List UInt8 := [180, 0, 38, 3, 42, 180, 0, 23, 180, 0, 158, 3, 182, 1, 10, 42, 4, 181, 1, 7, 3, 60, 27, 42]
abbrev dktX5_beginCommit_7 : List UInt8 := dkwX5_beginCommit_7 ++ dktX5_beginCommit_8
def dkwX5_beginCommit_6 : List UInt8 := [132, 1, 1, 167, 255, 225, 42, 180, 0, 23, 42, 182, 0, 212, 4, 182, 0, 219, 42, 180, 0, 71, 42]
abbrev dktX5_beginCommit_6 : List UInt8 := dkwX5_beginCommit_6 ++ dktX5_beginCommit_7
def dkwX5_beginCommit_5 : List UInt8 := [162, 0, 29, 42, 180, 0, 23, 16, 8, 7, 27, 104, 96, 42, 180, 0, 47, 27, 46, 182, 1, 1, 87]
abbrev dktX5_beginCommit_5 : List UInt8 := dkwX5_beginCommit_5 ++ dktX5_beginCommit_6
def dkwX5_beginCommit_4 : List UInt8 := [181, 1, 34, 42, 16, 7, 42, 180, 1, 34, 42, 180, 1, 37, 182, 1, 3, 3, 60, 27, 42, 180, 1, 37]
abbrev dktX5_beginCommit_4 : List UInt8 := dkwX5_beginCommit_4 ++ dktX5_beginCommit_5
def dkwX5_beginCommit_3 : List UInt8 := [100, 181, 0, 38, 42, 180, 0, 71, 42, 180, 0, 38, 182, 1, 31, 42, 89, 180, 1, 34, 4, 96]
abbrev dktX5_beginCommit_3 : List UInt8 := dkwX5_beginCommit_3 ++ dktX5_beginCommit_4
def dkwX5_beginCommit_2 : List UInt8 := [182, 1, 24, 42, 180, 0, 121, 182, 0, 244, 42, 42, 180, 0, 38, 181, 1, 28, 42, 8, 42, 180, 0, 38]
abbrev dktX5_beginCommit_2 : List UInt8 := dkwX5_beginCommit_2 ++ dktX5_beginCommit_3
def dkwX5_beginCommit_1 : List UInt8 := [182, 0, 99, 100, 42, 180, 0, 102, 163, 0, 17, 42, 180, 0, 108, 42, 180, 0, 108, 180, 1, 16]
abbrev dktX5_beginCommit_1 : List UInt8 := dkwX5_beginCommit_1 ++ dktX5_beginCommit_2
def dkwX5_beginCommit_0 : List UInt8 := [42, 180, 0, 79, 182, 1, 13, 42, 42, 180, 0, 108, 42, 180, 0, 108, 180, 1, 16, 182, 1, 20]
abbrev dktX5_beginCommit_0 : List UInt8 := dkwX5_beginCommit_0 ++ dktX5_beginCommit_1
theorem dksX5_beginCommit_0 : cX5_beginCommit.data.toList.drop 0 = dktX5_beginCommit_0 := by decide +kernel
theorem dksX5_beginCommit_1 : cX5_beginCommit.data.toList.drop 22 = dktX5_beginCommit_1 := dk_seg dksX5_beginCommit_0 22 rfl rfl
theorem dksX5_beginCommit_2 : cX5_beginCommit.data.toList.drop 44 = dktX5_beginCommit_2 := dk_seg dksX5_beginCommit_1 22 rfl rfl
theorem dksX5_beginCommit_3 : cX5_beginCommit.data.toList.drop 68 = dktX5_beginCommit_3 := dk_seg dksX5_beginCommit_2 24 rfl rfl
theorem dksX5_beginCommit_4 : cX5_beginCommit.data.toList.drop 90 = dktX5_beginCommit_4 := dk_seg dksX5_beginCommit_3 22 rfl rfl
theorem dksX5_beginCommit_5 : cX5_beginCommit.data.toList.drop 114 = dktX5_beginCommit_5 := dk_seg dksX5_beginCommit_4 24 rfl rfl
theorem dksX5_beginCommit_6 : cX5_beginCommit.data.toList.drop 137 = dktX5_beginCommit_6 := dk_seg dksX5_beginCommit_5 23 rfl rfl
theorem dksX5_beginCommit_7 : cX5_beginCommit.data.toList.drop 160 = dktX5_beginCommit_7 := dk_seg dksX5_beginCommit_6 23 rfl rfl
theorem dksX5_beginCommit_8 : cX5_beginCommit.data.toList.drop 184 = dktX5_beginCommit_8 := dk_seg dksX5_beginCommit_7 24 rfl rfl
theorem dksX5_beginCommit_9 : cX5_beginCommit.data.toList.drop 207 = dktX5_beginCommit_9 := dk_seg dksX5_beginCommit_8 23 rfl rfl
theorem dksX5_beginCommit_10 : cX5_beginCommit.data.toList.drop 229 = dktX5_beginCommit_10 := dk_seg dksX5_beginCommit_9 22 rfl rfl
theorem dksX5_beginCommit_11 : cX5_beginCommit.data.toList.drop 252 = dktX5_beginCommit_11 := dk_seg dksX5_beginCommit_10 23 rfl rfl
theorem dksX5_beginCommit_12 : cX5_beginCommit.data.toList.drop 276 = dktX5_beginCommit_12 := dk_seg dksX5_beginCommit_11 24 rfl rfl
theorem dX5_beginCommit_0 : decode cX5_beginCommit 0 = .ok (.aload_n 0, 1) := dk_42 (dk_at dksX5_beginCommit_0 0 rfl rfl)
theorem dX5_beginCommit_1 : decode cX5_beginCommit 1 = .ok (.getfield 79, 3) := dk_180 0 79 (dk_at dksX5_beginCommit_0 1 rfl rfl)
theorem dX5_beginCommit_4 : decode cX5_beginCommit 4 = .ok (.invokevirtual 269, 3) := dk_182 1 13 (dk_at dksX5_beginCommit_0 4 rfl rfl)
theorem dX5_beginCommit_7 : decode cX5_beginCommit 7 = .ok (.aload_n 0, 1) := dk_42 (dk_at dksX5_beginCommit_0 7 rfl rfl)
theorem dX5_beginCommit_8 : decode cX5_beginCommit 8 = .ok (.aload_n 0, 1) := dk_42 (dk_at dksX5_beginCommit_0 8 rfl rfl)
theorem dX5_beginCommit_9 : decode cX5_beginCommit 9 = .ok (.getfield 108, 3) := dk_180 0 108 (dk_at dksX5_beginCommit_0 9 rfl rfl)
theorem dX5_beginCommit_12 : decode cX5_beginCommit 12 = .ok (.aload_n 0, 1) := dk_42 (dk_at dksX5_beginCommit_0 12 rfl rfl)
theorem dX5_beginCommit_13 : decode cX5_beginCommit 13 = .ok (.getfield 108, 3) := dk_180 0 108 (dk_at dksX5_beginCommit_0 13 rfl rfl)
theorem dX5_beginCommit_16 : decode cX5_beginCommit 16 = .ok (.getfield 272, 3) := dk_180 1 16 (dk_at dksX5_beginCommit_0 16 rfl rfl)
theorem dX5_beginCommit_19 : decode cX5_beginCommit 19 = .ok (.invokevirtual 276, 3) := dk_182 1 20 (dk_at dksX5_beginCommit_0 19 rfl rfl)
theorem dX5_beginCommit_22 : decode cX5_beginCommit 22 = .ok (.invokevirtual 99, 3) := dk_182 0 99 (dk_at dksX5_beginCommit_1 0 rfl rfl)
theorem dX5_beginCommit_25 : decode cX5_beginCommit 25 = .ok (.isub, 1) := dk_100 (dk_at dksX5_beginCommit_1 3 rfl rfl)
theorem dX5_beginCommit_26 : decode cX5_beginCommit 26 = .ok (.aload_n 0, 1) := dk_42 (dk_at dksX5_beginCommit_1 4 rfl rfl)
theorem dX5_beginCommit_27 : decode cX5_beginCommit 27 = .ok (.getfield 102, 3) := dk_180 0 102 (dk_at dksX5_beginCommit_1 5 rfl rfl)
theorem dX5_beginCommit_30 : decode cX5_beginCommit 30 = .ok (.if_icmp .gt 17, 3) := dk_163 0 17 (dk_at dksX5_beginCommit_1 8 rfl rfl)
theorem dX5_beginCommit_33 : decode cX5_beginCommit 33 = .ok (.aload_n 0, 1) := dk_42 (dk_at dksX5_beginCommit_1 11 rfl rfl)
theorem dX5_beginCommit_34 : decode cX5_beginCommit 34 = .ok (.getfield 108, 3) := dk_180 0 108 (dk_at dksX5_beginCommit_1 12 rfl rfl)
theorem dX5_beginCommit_37 : decode cX5_beginCommit 37 = .ok (.aload_n 0, 1) := dk_42 (dk_at dksX5_beginCommit_1 15 rfl rfl)
theorem dX5_beginCommit_38 : decode cX5_beginCommit 38 = .ok (.getfield 108, 3) := dk_180 0 108 (dk_at dksX5_beginCommit_1 16 rfl rfl)
theorem dX5_beginCommit_41 : decode cX5_beginCommit 41 = .ok (.getfield 272, 3) := dk_180 1 16 (dk_at dksX5_beginCommit_1 19 rfl rfl)
theorem dX5_beginCommit_44 : decode cX5_beginCommit 44 = .ok (.invokevirtual 280, 3) := dk_182 1 24 (dk_at dksX5_beginCommit_2 0 rfl rfl)
theorem dX5_beginCommit_47 : decode cX5_beginCommit 47 = .ok (.aload_n 0, 1) := dk_42 (dk_at dksX5_beginCommit_2 3 rfl rfl)
theorem dX5_beginCommit_48 : decode cX5_beginCommit 48 = .ok (.getfield 121, 3) := dk_180 0 121 (dk_at dksX5_beginCommit_2 4 rfl rfl)
theorem dX5_beginCommit_51 : decode cX5_beginCommit 51 = .ok (.invokevirtual 244, 3) := dk_182 0 244 (dk_at dksX5_beginCommit_2 7 rfl rfl)
theorem dX5_beginCommit_54 : decode cX5_beginCommit 54 = .ok (.aload_n 0, 1) := dk_42 (dk_at dksX5_beginCommit_2 10 rfl rfl)
theorem dX5_beginCommit_55 : decode cX5_beginCommit 55 = .ok (.aload_n 0, 1) := dk_42 (dk_at dksX5_beginCommit_2 11 rfl rfl)
theorem dX5_beginCommit_56 : decode cX5_beginCommit 56 = .ok (.getfield 38, 3) := dk_180 0 38 (dk_at dksX5_beginCommit_2 12 rfl rfl)
theorem dX5_beginCommit_59 : decode cX5_beginCommit 59 = .ok (.putfield 284, 3) := dk_181 1 28 (dk_at dksX5_beginCommit_2 15 rfl rfl)
theorem dX5_beginCommit_62 : decode cX5_beginCommit 62 = .ok (.aload_n 0, 1) := dk_42 (dk_at dksX5_beginCommit_2 18 rfl rfl)
theorem dX5_beginCommit_63 : decode cX5_beginCommit 63 = .ok (.iconst 5, 1) := dk_8 (dk_at dksX5_beginCommit_2 19 rfl rfl)
theorem dX5_beginCommit_64 : decode cX5_beginCommit 64 = .ok (.aload_n 0, 1) := dk_42 (dk_at dksX5_beginCommit_2 20 rfl rfl)
theorem dX5_beginCommit_65 : decode cX5_beginCommit 65 = .ok (.getfield 38, 3) := dk_180 0 38 (dk_at dksX5_beginCommit_2 21 rfl rfl)
theorem dX5_beginCommit_68 : decode cX5_beginCommit 68 = .ok (.isub, 1) := dk_100 (dk_at dksX5_beginCommit_3 0 rfl rfl)
theorem dX5_beginCommit_69 : decode cX5_beginCommit 69 = .ok (.putfield 38, 3) := dk_181 0 38 (dk_at dksX5_beginCommit_3 1 rfl rfl)
theorem dX5_beginCommit_72 : decode cX5_beginCommit 72 = .ok (.aload_n 0, 1) := dk_42 (dk_at dksX5_beginCommit_3 4 rfl rfl)
theorem dX5_beginCommit_73 : decode cX5_beginCommit 73 = .ok (.getfield 71, 3) := dk_180 0 71 (dk_at dksX5_beginCommit_3 5 rfl rfl)
theorem dX5_beginCommit_76 : decode cX5_beginCommit 76 = .ok (.aload_n 0, 1) := dk_42 (dk_at dksX5_beginCommit_3 8 rfl rfl)
theorem dX5_beginCommit_77 : decode cX5_beginCommit 77 = .ok (.getfield 38, 3) := dk_180 0 38 (dk_at dksX5_beginCommit_3 9 rfl rfl)
theorem dX5_beginCommit_80 : decode cX5_beginCommit 80 = .ok (.invokevirtual 287, 3) := dk_182 1 31 (dk_at dksX5_beginCommit_3 12 rfl rfl)
theorem dX5_beginCommit_83 : decode cX5_beginCommit 83 = .ok (.aload_n 0, 1) := dk_42 (dk_at dksX5_beginCommit_3 15 rfl rfl)
theorem dX5_beginCommit_84 : decode cX5_beginCommit 84 = .ok (.dup, 1) := dk_89 (dk_at dksX5_beginCommit_3 16 rfl rfl)
theorem dX5_beginCommit_85 : decode cX5_beginCommit 85 = .ok (.getfield 290, 3) := dk_180 1 34 (dk_at dksX5_beginCommit_3 17 rfl rfl)
theorem dX5_beginCommit_88 : decode cX5_beginCommit 88 = .ok (.iconst 1, 1) := dk_4 (dk_at dksX5_beginCommit_3 20 rfl rfl)
theorem dX5_beginCommit_89 : decode cX5_beginCommit 89 = .ok (.iadd, 1) := dk_96 (dk_at dksX5_beginCommit_3 21 rfl rfl)
theorem dX5_beginCommit_90 : decode cX5_beginCommit 90 = .ok (.putfield 290, 3) := dk_181 1 34 (dk_at dksX5_beginCommit_4 0 rfl rfl)
theorem dX5_beginCommit_93 : decode cX5_beginCommit 93 = .ok (.aload_n 0, 1) := dk_42 (dk_at dksX5_beginCommit_4 3 rfl rfl)
theorem dX5_beginCommit_94 : decode cX5_beginCommit 94 = .ok (.bipush 7, 2) := dk_16 7 (dk_at dksX5_beginCommit_4 4 rfl rfl)
theorem dX5_beginCommit_96 : decode cX5_beginCommit 96 = .ok (.aload_n 0, 1) := dk_42 (dk_at dksX5_beginCommit_4 6 rfl rfl)
theorem dX5_beginCommit_97 : decode cX5_beginCommit 97 = .ok (.getfield 290, 3) := dk_180 1 34 (dk_at dksX5_beginCommit_4 7 rfl rfl)
theorem dX5_beginCommit_100 : decode cX5_beginCommit 100 = .ok (.aload_n 0, 1) := dk_42 (dk_at dksX5_beginCommit_4 10 rfl rfl)
theorem dX5_beginCommit_101 : decode cX5_beginCommit 101 = .ok (.getfield 293, 3) := dk_180 1 37 (dk_at dksX5_beginCommit_4 11 rfl rfl)
theorem dX5_beginCommit_104 : decode cX5_beginCommit 104 = .ok (.invokevirtual 259, 3) := dk_182 1 3 (dk_at dksX5_beginCommit_4 14 rfl rfl)
theorem dX5_beginCommit_107 : decode cX5_beginCommit 107 = .ok (.iconst 0, 1) := dk_3 (dk_at dksX5_beginCommit_4 17 rfl rfl)
theorem dX5_beginCommit_108 : decode cX5_beginCommit 108 = .ok (.istore_n 1, 1) := dk_60 (dk_at dksX5_beginCommit_4 18 rfl rfl)
theorem dX5_beginCommit_109 : decode cX5_beginCommit 109 = .ok (.iload_n 1, 1) := dk_27 (dk_at dksX5_beginCommit_4 19 rfl rfl)
theorem dX5_beginCommit_110 : decode cX5_beginCommit 110 = .ok (.aload_n 0, 1) := dk_42 (dk_at dksX5_beginCommit_4 20 rfl rfl)
theorem dX5_beginCommit_111 : decode cX5_beginCommit 111 = .ok (.getfield 293, 3) := dk_180 1 37 (dk_at dksX5_beginCommit_4 21 rfl rfl)
theorem dX5_beginCommit_114 : decode cX5_beginCommit 114 = .ok (.if_icmp .ge 29, 3) := dk_162 0 29 (dk_at dksX5_beginCommit_5 0 rfl rfl)
theorem dX5_beginCommit_117 : decode cX5_beginCommit 117 = .ok (.aload_n 0, 1) := dk_42 (dk_at dksX5_beginCommit_5 3 rfl rfl)
theorem dX5_beginCommit_118 : decode cX5_beginCommit 118 = .ok (.getfield 23, 3) := dk_180 0 23 (dk_at dksX5_beginCommit_5 4 rfl rfl)
theorem dX5_beginCommit_121 : decode cX5_beginCommit 121 = .ok (.bipush 8, 2) := dk_16 8 (dk_at dksX5_beginCommit_5 7 rfl rfl)
theorem dX5_beginCommit_123 : decode cX5_beginCommit 123 = .ok (.iconst 4, 1) := dk_7 (dk_at dksX5_beginCommit_5 9 rfl rfl)
theorem dX5_beginCommit_124 : decode cX5_beginCommit 124 = .ok (.iload_n 1, 1) := dk_27 (dk_at dksX5_beginCommit_5 10 rfl rfl)
theorem dX5_beginCommit_125 : decode cX5_beginCommit 125 = .ok (.imul, 1) := dk_104 (dk_at dksX5_beginCommit_5 11 rfl rfl)
theorem dX5_beginCommit_126 : decode cX5_beginCommit 126 = .ok (.iadd, 1) := dk_96 (dk_at dksX5_beginCommit_5 12 rfl rfl)
theorem dX5_beginCommit_127 : decode cX5_beginCommit 127 = .ok (.aload_n 0, 1) := dk_42 (dk_at dksX5_beginCommit_5 13 rfl rfl)
theorem dX5_beginCommit_128 : decode cX5_beginCommit 128 = .ok (.getfield 47, 3) := dk_180 0 47 (dk_at dksX5_beginCommit_5 14 rfl rfl)
theorem dX5_beginCommit_131 : decode cX5_beginCommit 131 = .ok (.iload_n 1, 1) := dk_27 (dk_at dksX5_beginCommit_5 17 rfl rfl)
theorem dX5_beginCommit_132 : decode cX5_beginCommit 132 = .ok (.iaload, 1) := dk_46 (dk_at dksX5_beginCommit_5 18 rfl rfl)
theorem dX5_beginCommit_133 : decode cX5_beginCommit 133 = .ok (.invokevirtual 257, 3) := dk_182 1 1 (dk_at dksX5_beginCommit_5 19 rfl rfl)
theorem dX5_beginCommit_136 : decode cX5_beginCommit 136 = .ok (.pop, 1) := dk_87 (dk_at dksX5_beginCommit_5 22 rfl rfl)
theorem dX5_beginCommit_137 : decode cX5_beginCommit 137 = .ok (.iinc 1 1, 3) := dk_132 1 1 (dk_at dksX5_beginCommit_6 0 rfl rfl)
theorem dX5_beginCommit_140 : decode cX5_beginCommit 140 = .ok (.goto (-31), 3) := dk_167 255 225 (dk_at dksX5_beginCommit_6 3 rfl rfl)
theorem dX5_beginCommit_143 : decode cX5_beginCommit 143 = .ok (.aload_n 0, 1) := dk_42 (dk_at dksX5_beginCommit_6 6 rfl rfl)
theorem dX5_beginCommit_144 : decode cX5_beginCommit 144 = .ok (.getfield 23, 3) := dk_180 0 23 (dk_at dksX5_beginCommit_6 7 rfl rfl)
theorem dX5_beginCommit_147 : decode cX5_beginCommit 147 = .ok (.aload_n 0, 1) := dk_42 (dk_at dksX5_beginCommit_6 10 rfl rfl)
theorem dX5_beginCommit_148 : decode cX5_beginCommit 148 = .ok (.invokevirtual 212, 3) := dk_182 0 212 (dk_at dksX5_beginCommit_6 11 rfl rfl)
theorem dX5_beginCommit_151 : decode cX5_beginCommit 151 = .ok (.iconst 1, 1) := dk_4 (dk_at dksX5_beginCommit_6 14 rfl rfl)
theorem dX5_beginCommit_152 : decode cX5_beginCommit 152 = .ok (.invokevirtual 219, 3) := dk_182 0 219 (dk_at dksX5_beginCommit_6 15 rfl rfl)
theorem dX5_beginCommit_155 : decode cX5_beginCommit 155 = .ok (.aload_n 0, 1) := dk_42 (dk_at dksX5_beginCommit_6 18 rfl rfl)
theorem dX5_beginCommit_156 : decode cX5_beginCommit 156 = .ok (.getfield 71, 3) := dk_180 0 71 (dk_at dksX5_beginCommit_6 19 rfl rfl)
theorem dX5_beginCommit_159 : decode cX5_beginCommit 159 = .ok (.aload_n 0, 1) := dk_42 (dk_at dksX5_beginCommit_6 22 rfl rfl)
theorem dX5_beginCommit_160 : decode cX5_beginCommit 160 = .ok (.getfield 38, 3) := dk_180 0 38 (dk_at dksX5_beginCommit_7 0 rfl rfl)
theorem dX5_beginCommit_163 : decode cX5_beginCommit 163 = .ok (.iconst 0, 1) := dk_3 (dk_at dksX5_beginCommit_7 3 rfl rfl)
theorem dX5_beginCommit_164 : decode cX5_beginCommit 164 = .ok (.aload_n 0, 1) := dk_42 (dk_at dksX5_beginCommit_7 4 rfl rfl)
theorem dX5_beginCommit_165 : decode cX5_beginCommit 165 = .ok (.getfield 23, 3) := dk_180 0 23 (dk_at dksX5_beginCommit_7 5 rfl rfl)
theorem dX5_beginCommit_168 : decode cX5_beginCommit 168 = .ok (.getfield 158, 3) := dk_180 0 158 (dk_at dksX5_beginCommit_7 8 rfl rfl)
theorem dX5_beginCommit_171 : decode cX5_beginCommit 171 = .ok (.iconst 0, 1) := dk_3 (dk_at dksX5_beginCommit_7 11 rfl rfl)
theorem dX5_beginCommit_172 : decode cX5_beginCommit 172 = .ok (.invokevirtual 266, 3) := dk_182 1 10 (dk_at dksX5_beginCommit_7 12 rfl rfl)
theorem dX5_beginCommit_175 : decode cX5_beginCommit 175 = .ok (.aload_n 0, 1) := dk_42 (dk_at dksX5_beginCommit_7 15 rfl rfl)
theorem dX5_beginCommit_176 : decode cX5_beginCommit 176 = .ok (.iconst 1, 1) := dk_4 (dk_at dksX5_beginCommit_7 16 rfl rfl)
theorem dX5_beginCommit_177 : decode cX5_beginCommit 177 = .ok (.putfield 263, 3) := dk_181 1 7 (dk_at dksX5_beginCommit_7 17 rfl rfl)
theorem dX5_beginCommit_180 : decode cX5_beginCommit 180 = .ok (.iconst 0, 1) := dk_3 (dk_at dksX5_beginCommit_7 20 rfl rfl)
theorem dX5_beginCommit_181 : decode cX5_beginCommit 181 = .ok (.istore_n 1, 1) := dk_60 (dk_at dksX5_beginCommit_7 21 rfl rfl)
theorem dX5_beginCommit_182 : decode cX5_beginCommit 182 = .ok (.iload_n 1, 1) := dk_27 (dk_at dksX5_beginCommit_7 22 rfl rfl)
theorem dX5_beginCommit_183 : decode cX5_beginCommit 183 = .ok (.aload_n 0, 1) := dk_42 (dk_at dksX5_beginCommit_7 23 rfl rfl)
theorem dX5_beginCommit_184 : decode cX5_beginCommit 184 = .ok (.getfield 226, 3) := dk_180 0 226 (dk_at dksX5_beginCommit_8 0 rfl rfl)
theorem dX5_beginCommit_187 : decode cX5_beginCommit 187 = .ok (.if_icmp .ge 40, 3) := dk_162 0 40 (dk_at dksX5_beginCommit_8 3 rfl rfl)
theorem dX5_beginCommit_190 : decode cX5_beginCommit 190 = .ok (.aload_n 0, 1) := dk_42 (dk_at dksX5_beginCommit_8 6 rfl rfl)
theorem dX5_beginCommit_191 : decode cX5_beginCommit 191 = .ok (.getfield 41, 3) := dk_180 0 41 (dk_at dksX5_beginCommit_8 7 rfl rfl)
theorem dX5_beginCommit_194 : decode cX5_beginCommit 194 = .ok (.iload_n 1, 1) := dk_27 (dk_at dksX5_beginCommit_8 10 rfl rfl)
theorem dX5_beginCommit_195 : decode cX5_beginCommit 195 = .ok (.iaload, 1) := dk_46 (dk_at dksX5_beginCommit_8 11 rfl rfl)
theorem dX5_beginCommit_196 : decode cX5_beginCommit 196 = .ok (.aload_n 0, 1) := dk_42 (dk_at dksX5_beginCommit_8 12 rfl rfl)
theorem dX5_beginCommit_197 : decode cX5_beginCommit 197 = .ok (.getfield 117, 3) := dk_180 0 117 (dk_at dksX5_beginCommit_8 13 rfl rfl)
theorem dX5_beginCommit_200 : decode cX5_beginCommit 200 = .ok (.getfield 131, 3) := dk_180 0 131 (dk_at dksX5_beginCommit_8 16 rfl rfl)
theorem dX5_beginCommit_203 : decode cX5_beginCommit 203 = .ok (.if_icmp .eq 18, 3) := dk_159 0 18 (dk_at dksX5_beginCommit_8 19 rfl rfl)
theorem dX5_beginCommit_206 : decode cX5_beginCommit 206 = .ok (.aload_n 0, 1) := dk_42 (dk_at dksX5_beginCommit_8 22 rfl rfl)
theorem dX5_beginCommit_207 : decode cX5_beginCommit 207 = .ok (.getfield 79, 3) := dk_180 0 79 (dk_at dksX5_beginCommit_9 0 rfl rfl)
theorem dX5_beginCommit_210 : decode cX5_beginCommit 210 = .ok (.getfield 296, 3) := dk_180 1 40 (dk_at dksX5_beginCommit_9 3 rfl rfl)
theorem dX5_beginCommit_213 : decode cX5_beginCommit 213 = .ok (.aload_n 0, 1) := dk_42 (dk_at dksX5_beginCommit_9 6 rfl rfl)
theorem dX5_beginCommit_214 : decode cX5_beginCommit 214 = .ok (.getfield 41, 3) := dk_180 0 41 (dk_at dksX5_beginCommit_9 7 rfl rfl)
theorem dX5_beginCommit_217 : decode cX5_beginCommit 217 = .ok (.iload_n 1, 1) := dk_27 (dk_at dksX5_beginCommit_9 10 rfl rfl)
theorem dX5_beginCommit_218 : decode cX5_beginCommit 218 = .ok (.iaload, 1) := dk_46 (dk_at dksX5_beginCommit_9 11 rfl rfl)
theorem dX5_beginCommit_219 : decode cX5_beginCommit 219 = .ok (.iconst 1, 1) := dk_4 (dk_at dksX5_beginCommit_9 12 rfl rfl)
theorem dX5_beginCommit_220 : decode cX5_beginCommit 220 = .ok (.iastore, 1) := dk_79 (dk_at dksX5_beginCommit_9 13 rfl rfl)
theorem dX5_beginCommit_221 : decode cX5_beginCommit 221 = .ok (.iinc 1 1, 3) := dk_132 1 1 (dk_at dksX5_beginCommit_9 14 rfl rfl)
theorem dX5_beginCommit_224 : decode cX5_beginCommit 224 = .ok (.goto (-42), 3) := dk_167 255 214 (dk_at dksX5_beginCommit_9 17 rfl rfl)
theorem dX5_beginCommit_227 : decode cX5_beginCommit 227 = .ok (.aload_n 0, 1) := dk_42 (dk_at dksX5_beginCommit_9 20 rfl rfl)
theorem dX5_beginCommit_228 : decode cX5_beginCommit 228 = .ok (.iconst 0, 1) := dk_3 (dk_at dksX5_beginCommit_9 21 rfl rfl)
theorem dX5_beginCommit_229 : decode cX5_beginCommit 229 = .ok (.putfield 226, 3) := dk_181 0 226 (dk_at dksX5_beginCommit_10 0 rfl rfl)
theorem dX5_beginCommit_232 : decode cX5_beginCommit 232 = .ok (.aload_n 0, 1) := dk_42 (dk_at dksX5_beginCommit_10 3 rfl rfl)
theorem dX5_beginCommit_233 : decode cX5_beginCommit 233 = .ok (.getfield 117, 3) := dk_180 0 117 (dk_at dksX5_beginCommit_10 4 rfl rfl)
theorem dX5_beginCommit_236 : decode cX5_beginCommit 236 = .ok (.getfield 131, 3) := dk_180 0 131 (dk_at dksX5_beginCommit_10 7 rfl rfl)
theorem dX5_beginCommit_239 : decode cX5_beginCommit 239 = .ok (.iconst (-1), 1) := dk_2 (dk_at dksX5_beginCommit_10 10 rfl rfl)
theorem dX5_beginCommit_240 : decode cX5_beginCommit 240 = .ok (.if_icmp .eq 21, 3) := dk_159 0 21 (dk_at dksX5_beginCommit_10 11 rfl rfl)
theorem dX5_beginCommit_243 : decode cX5_beginCommit 243 = .ok (.aload_n 0, 1) := dk_42 (dk_at dksX5_beginCommit_10 14 rfl rfl)
theorem dX5_beginCommit_244 : decode cX5_beginCommit 244 = .ok (.aload_n 0, 1) := dk_42 (dk_at dksX5_beginCommit_10 15 rfl rfl)
theorem dX5_beginCommit_245 : decode cX5_beginCommit 245 = .ok (.getfield 117, 3) := dk_180 0 117 (dk_at dksX5_beginCommit_10 16 rfl rfl)
theorem dX5_beginCommit_248 : decode cX5_beginCommit 248 = .ok (.getfield 131, 3) := dk_180 0 131 (dk_at dksX5_beginCommit_10 19 rfl rfl)
theorem dX5_beginCommit_251 : decode cX5_beginCommit 251 = .ok (.aload_n 0, 1) := dk_42 (dk_at dksX5_beginCommit_10 22 rfl rfl)
theorem dX5_beginCommit_252 : decode cX5_beginCommit 252 = .ok (.getfield 117, 3) := dk_180 0 117 (dk_at dksX5_beginCommit_11 0 rfl rfl)
theorem dX5_beginCommit_255 : decode cX5_beginCommit 255 = .ok (.getfield 134, 3) := dk_180 0 134 (dk_at dksX5_beginCommit_11 3 rfl rfl)
theorem dX5_beginCommit_258 : decode cX5_beginCommit 258 = .ok (.invokevirtual 238, 3) := dk_182 0 238 (dk_at dksX5_beginCommit_11 6 rfl rfl)
theorem dX5_beginCommit_261 : decode cX5_beginCommit 261 = .ok (.aload_n 0, 1) := dk_42 (dk_at dksX5_beginCommit_11 9 rfl rfl)
theorem dX5_beginCommit_262 : decode cX5_beginCommit 262 = .ok (.iconst 0, 1) := dk_3 (dk_at dksX5_beginCommit_11 10 rfl rfl)
theorem dX5_beginCommit_263 : decode cX5_beginCommit 263 = .ok (.putfield 299, 3) := dk_181 1 43 (dk_at dksX5_beginCommit_11 11 rfl rfl)
theorem dX5_beginCommit_266 : decode cX5_beginCommit 266 = .ok (.aload_n 0, 1) := dk_42 (dk_at dksX5_beginCommit_11 14 rfl rfl)
theorem dX5_beginCommit_267 : decode cX5_beginCommit 267 = .ok (.iconst 0, 1) := dk_3 (dk_at dksX5_beginCommit_11 15 rfl rfl)
theorem dX5_beginCommit_268 : decode cX5_beginCommit 268 = .ok (.putfield 302, 3) := dk_181 1 46 (dk_at dksX5_beginCommit_11 16 rfl rfl)
theorem dX5_beginCommit_271 : decode cX5_beginCommit 271 = .ok (.aload_n 0, 1) := dk_42 (dk_at dksX5_beginCommit_11 19 rfl rfl)
theorem dX5_beginCommit_272 : decode cX5_beginCommit 272 = .ok (.aload_n 0, 1) := dk_42 (dk_at dksX5_beginCommit_11 20 rfl rfl)
theorem dX5_beginCommit_273 : decode cX5_beginCommit 273 = .ok (.getfield 108, 3) := dk_180 0 108 (dk_at dksX5_beginCommit_11 21 rfl rfl)
theorem dX5_beginCommit_276 : decode cX5_beginCommit 276 = .ok (.getfield 272, 3) := dk_180 1 16 (dk_at dksX5_beginCommit_12 0 rfl rfl)
theorem dX5_beginCommit_279 : decode cX5_beginCommit 279 = .ok (.invokevirtual 305, 3) := dk_182 1 49 (dk_at dksX5_beginCommit_12 3 rfl rfl)
theorem dX5_beginCommit_282 : decode cX5_beginCommit 282 = .ok (.aload_n 0, 1) := dk_42 (dk_at dksX5_beginCommit_12 6 rfl rfl)
theorem dX5_beginCommit_283 : decode cX5_beginCommit 283 = .ok (.iconst 1, 1) := dk_4 (dk_at dksX5_beginCommit_12 7 rfl rfl)
theorem dX5_beginCommit_284 : decode cX5_beginCommit 284 = .ok (.putfield 308, 3) := dk_181 1 52 (dk_at dksX5_beginCommit_12 8 rfl rfl)
theorem dX5_beginCommit_287 : decode cX5_beginCommit 287 = .ok (.return_, 1) := dk_177 (dk_at dksX5_beginCommit_12 11 rfl rfl)
abbrev cX5_logBud : ByteArray := prog_9_method_14_code
def yX5_logBud : MethodName := ⟨RX5, "logBud", "(II)V"⟩
def dkwX5_logBud_2 : List UInt8 := [182, 1, 10, 42, 180, 0, 41, 42, 89, 180, 0, 226, 90, 4, 96, 181, 0, 226, 27, 79, 177]
abbrev dktX5_logBud_2 : List UInt8 := dkwX5_logBud_2 ++ []
def dkwX5_logBud_1 : List UInt8 := [42, 180, 0, 38, 42, 89, 180, 1, 7, 90, 4, 96, 181, 1, 7, 42, 180, 0, 23, 180, 0, 158, 3]
abbrev dktX5_logBud_1 : List UInt8 := dkwX5_logBud_1 ++ dktX5_logBud_2
def dkwX5_logBud_0 : List UInt8 := [42, 16, 8, 27, 28, 182, 1, 3, 42, 180, 0, 23, 42, 182, 0, 212, 4, 182, 0, 219, 42, 180, 0, 71]
abbrev dktX5_logBud_0 : List UInt8 := dkwX5_logBud_0 ++ dktX5_logBud_1
theorem dksX5_logBud_0 : cX5_logBud.data.toList.drop 0 = dktX5_logBud_0 := by decide +kernel
theorem dksX5_logBud_1 : cX5_logBud.data.toList.drop 24 = dktX5_logBud_1 := dk_seg dksX5_logBud_0 24 rfl rfl
theorem dksX5_logBud_2 : cX5_logBud.data.toList.drop 47 = dktX5_logBud_2 := dk_seg dksX5_logBud_1 23 rfl rfl
theorem dX5_logBud_0 : decode cX5_logBud 0 = .ok (.aload_n 0, 1) := dk_42 (dk_at dksX5_logBud_0 0 rfl rfl)
theorem dX5_logBud_1 : decode cX5_logBud 1 = .ok (.bipush 8, 2) := dk_16 8 (dk_at dksX5_logBud_0 1 rfl rfl)
theorem dX5_logBud_3 : decode cX5_logBud 3 = .ok (.iload_n 1, 1) := dk_27 (dk_at dksX5_logBud_0 3 rfl rfl)
theorem dX5_logBud_4 : decode cX5_logBud 4 = .ok (.iload_n 2, 1) := dk_28 (dk_at dksX5_logBud_0 4 rfl rfl)
theorem dX5_logBud_5 : decode cX5_logBud 5 = .ok (.invokevirtual 259, 3) := dk_182 1 3 (dk_at dksX5_logBud_0 5 rfl rfl)
theorem dX5_logBud_8 : decode cX5_logBud 8 = .ok (.aload_n 0, 1) := dk_42 (dk_at dksX5_logBud_0 8 rfl rfl)
theorem dX5_logBud_9 : decode cX5_logBud 9 = .ok (.getfield 23, 3) := dk_180 0 23 (dk_at dksX5_logBud_0 9 rfl rfl)
theorem dX5_logBud_12 : decode cX5_logBud 12 = .ok (.aload_n 0, 1) := dk_42 (dk_at dksX5_logBud_0 12 rfl rfl)
theorem dX5_logBud_13 : decode cX5_logBud 13 = .ok (.invokevirtual 212, 3) := dk_182 0 212 (dk_at dksX5_logBud_0 13 rfl rfl)
theorem dX5_logBud_16 : decode cX5_logBud 16 = .ok (.iconst 1, 1) := dk_4 (dk_at dksX5_logBud_0 16 rfl rfl)
theorem dX5_logBud_17 : decode cX5_logBud 17 = .ok (.invokevirtual 219, 3) := dk_182 0 219 (dk_at dksX5_logBud_0 17 rfl rfl)
theorem dX5_logBud_20 : decode cX5_logBud 20 = .ok (.aload_n 0, 1) := dk_42 (dk_at dksX5_logBud_0 20 rfl rfl)
theorem dX5_logBud_21 : decode cX5_logBud 21 = .ok (.getfield 71, 3) := dk_180 0 71 (dk_at dksX5_logBud_0 21 rfl rfl)
theorem dX5_logBud_24 : decode cX5_logBud 24 = .ok (.aload_n 0, 1) := dk_42 (dk_at dksX5_logBud_1 0 rfl rfl)
theorem dX5_logBud_25 : decode cX5_logBud 25 = .ok (.getfield 38, 3) := dk_180 0 38 (dk_at dksX5_logBud_1 1 rfl rfl)
theorem dX5_logBud_28 : decode cX5_logBud 28 = .ok (.aload_n 0, 1) := dk_42 (dk_at dksX5_logBud_1 4 rfl rfl)
theorem dX5_logBud_29 : decode cX5_logBud 29 = .ok (.dup, 1) := dk_89 (dk_at dksX5_logBud_1 5 rfl rfl)
theorem dX5_logBud_30 : decode cX5_logBud 30 = .ok (.getfield 263, 3) := dk_180 1 7 (dk_at dksX5_logBud_1 6 rfl rfl)
theorem dX5_logBud_33 : decode cX5_logBud 33 = .ok (.dup_x1, 1) := dk_90 (dk_at dksX5_logBud_1 9 rfl rfl)
theorem dX5_logBud_34 : decode cX5_logBud 34 = .ok (.iconst 1, 1) := dk_4 (dk_at dksX5_logBud_1 10 rfl rfl)
theorem dX5_logBud_35 : decode cX5_logBud 35 = .ok (.iadd, 1) := dk_96 (dk_at dksX5_logBud_1 11 rfl rfl)
theorem dX5_logBud_36 : decode cX5_logBud 36 = .ok (.putfield 263, 3) := dk_181 1 7 (dk_at dksX5_logBud_1 12 rfl rfl)
theorem dX5_logBud_39 : decode cX5_logBud 39 = .ok (.aload_n 0, 1) := dk_42 (dk_at dksX5_logBud_1 15 rfl rfl)
theorem dX5_logBud_40 : decode cX5_logBud 40 = .ok (.getfield 23, 3) := dk_180 0 23 (dk_at dksX5_logBud_1 16 rfl rfl)
theorem dX5_logBud_43 : decode cX5_logBud 43 = .ok (.getfield 158, 3) := dk_180 0 158 (dk_at dksX5_logBud_1 19 rfl rfl)
theorem dX5_logBud_46 : decode cX5_logBud 46 = .ok (.iconst 0, 1) := dk_3 (dk_at dksX5_logBud_1 22 rfl rfl)
theorem dX5_logBud_47 : decode cX5_logBud 47 = .ok (.invokevirtual 266, 3) := dk_182 1 10 (dk_at dksX5_logBud_2 0 rfl rfl)
theorem dX5_logBud_50 : decode cX5_logBud 50 = .ok (.aload_n 0, 1) := dk_42 (dk_at dksX5_logBud_2 3 rfl rfl)
theorem dX5_logBud_51 : decode cX5_logBud 51 = .ok (.getfield 41, 3) := dk_180 0 41 (dk_at dksX5_logBud_2 4 rfl rfl)
theorem dX5_logBud_54 : decode cX5_logBud 54 = .ok (.aload_n 0, 1) := dk_42 (dk_at dksX5_logBud_2 7 rfl rfl)
theorem dX5_logBud_55 : decode cX5_logBud 55 = .ok (.dup, 1) := dk_89 (dk_at dksX5_logBud_2 8 rfl rfl)
theorem dX5_logBud_56 : decode cX5_logBud 56 = .ok (.getfield 226, 3) := dk_180 0 226 (dk_at dksX5_logBud_2 9 rfl rfl)
theorem dX5_logBud_59 : decode cX5_logBud 59 = .ok (.dup_x1, 1) := dk_90 (dk_at dksX5_logBud_2 12 rfl rfl)
theorem dX5_logBud_60 : decode cX5_logBud 60 = .ok (.iconst 1, 1) := dk_4 (dk_at dksX5_logBud_2 13 rfl rfl)
theorem dX5_logBud_61 : decode cX5_logBud 61 = .ok (.iadd, 1) := dk_96 (dk_at dksX5_logBud_2 14 rfl rfl)
theorem dX5_logBud_62 : decode cX5_logBud 62 = .ok (.putfield 226, 3) := dk_181 0 226 (dk_at dksX5_logBud_2 15 rfl rfl)
theorem dX5_logBud_65 : decode cX5_logBud 65 = .ok (.iload_n 1, 1) := dk_27 (dk_at dksX5_logBud_2 18 rfl rfl)
theorem dX5_logBud_66 : decode cX5_logBud 66 = .ok (.iastore, 1) := dk_79 (dk_at dksX5_logBud_2 19 rfl rfl)
theorem dX5_logBud_67 : decode cX5_logBud 67 = .ok (.return_, 1) := dk_177 (dk_at dksX5_logBud_2 20 rfl rfl)
abbrev cX5_line : ByteArray := prog_9_method_16_code
def yX5_line : MethodName := ⟨RX5, "line", "(LNandHouse$Knot;)V"⟩
def dkwX5_line_2 : List UInt8 := [180, 1, 43, 90, 4, 96, 181, 1, 43, 43, 83, 177]
abbrev dktX5_line_2 : List UInt8 := dkwX5_line_2 ++ []
def dkwX5_line_1 : List UInt8 := [182, 1, 49, 132, 2, 1, 167, 255, 228, 43, 180, 1, 65, 153, 0, 20, 42, 180, 0, 54, 42, 89]
abbrev dktX5_line_1 : List UInt8 := dkwX5_line_1 ++ dktX5_line_2
def dkwX5_line_0 : List UInt8 := [3, 61, 28, 43, 180, 1, 56, 162, 0, 26, 43, 180, 1, 59, 158, 0, 19, 42, 43, 180, 1, 62, 28, 50]
abbrev dktX5_line_0 : List UInt8 := dkwX5_line_0 ++ dktX5_line_1
theorem dksX5_line_0 : cX5_line.data.toList.drop 0 = dktX5_line_0 := by decide +kernel
theorem dksX5_line_1 : cX5_line.data.toList.drop 24 = dktX5_line_1 := dk_seg dksX5_line_0 24 rfl rfl
theorem dksX5_line_2 : cX5_line.data.toList.drop 46 = dktX5_line_2 := dk_seg dksX5_line_1 22 rfl rfl
theorem dX5_line_0 : decode cX5_line 0 = .ok (.iconst 0, 1) := dk_3 (dk_at dksX5_line_0 0 rfl rfl)
theorem dX5_line_1 : decode cX5_line 1 = .ok (.istore_n 2, 1) := dk_61 (dk_at dksX5_line_0 1 rfl rfl)
theorem dX5_line_2 : decode cX5_line 2 = .ok (.iload_n 2, 1) := dk_28 (dk_at dksX5_line_0 2 rfl rfl)
theorem dX5_line_3 : decode cX5_line 3 = .ok (.aload_n 1, 1) := dk_43 (dk_at dksX5_line_0 3 rfl rfl)
theorem dX5_line_4 : decode cX5_line 4 = .ok (.getfield 312, 3) := dk_180 1 56 (dk_at dksX5_line_0 4 rfl rfl)
theorem dX5_line_7 : decode cX5_line 7 = .ok (.if_icmp .ge 26, 3) := dk_162 0 26 (dk_at dksX5_line_0 7 rfl rfl)
theorem dX5_line_10 : decode cX5_line 10 = .ok (.aload_n 1, 1) := dk_43 (dk_at dksX5_line_0 10 rfl rfl)
theorem dX5_line_11 : decode cX5_line 11 = .ok (.getfield 315, 3) := dk_180 1 59 (dk_at dksX5_line_0 11 rfl rfl)
theorem dX5_line_14 : decode cX5_line 14 = .ok (.ifCond .le 19, 3) := dk_158 0 19 (dk_at dksX5_line_0 14 rfl rfl)
theorem dX5_line_17 : decode cX5_line 17 = .ok (.aload_n 0, 1) := dk_42 (dk_at dksX5_line_0 17 rfl rfl)
theorem dX5_line_18 : decode cX5_line 18 = .ok (.aload_n 1, 1) := dk_43 (dk_at dksX5_line_0 18 rfl rfl)
theorem dX5_line_19 : decode cX5_line 19 = .ok (.getfield 318, 3) := dk_180 1 62 (dk_at dksX5_line_0 19 rfl rfl)
theorem dX5_line_22 : decode cX5_line 22 = .ok (.iload_n 2, 1) := dk_28 (dk_at dksX5_line_0 22 rfl rfl)
theorem dX5_line_23 : decode cX5_line 23 = .ok (.aaload, 1) := dk_50 (dk_at dksX5_line_0 23 rfl rfl)
theorem dX5_line_24 : decode cX5_line 24 = .ok (.invokevirtual 305, 3) := dk_182 1 49 (dk_at dksX5_line_1 0 rfl rfl)
theorem dX5_line_27 : decode cX5_line 27 = .ok (.iinc 2 1, 3) := dk_132 2 1 (dk_at dksX5_line_1 3 rfl rfl)
theorem dX5_line_30 : decode cX5_line 30 = .ok (.goto (-28), 3) := dk_167 255 228 (dk_at dksX5_line_1 6 rfl rfl)
theorem dX5_line_33 : decode cX5_line 33 = .ok (.aload_n 1, 1) := dk_43 (dk_at dksX5_line_1 9 rfl rfl)
theorem dX5_line_34 : decode cX5_line 34 = .ok (.getfield 321, 3) := dk_180 1 65 (dk_at dksX5_line_1 10 rfl rfl)
theorem dX5_line_37 : decode cX5_line 37 = .ok (.ifCond .eq 20, 3) := dk_153 0 20 (dk_at dksX5_line_1 13 rfl rfl)
theorem dX5_line_40 : decode cX5_line 40 = .ok (.aload_n 0, 1) := dk_42 (dk_at dksX5_line_1 16 rfl rfl)
theorem dX5_line_41 : decode cX5_line 41 = .ok (.getfield 54, 3) := dk_180 0 54 (dk_at dksX5_line_1 17 rfl rfl)
theorem dX5_line_44 : decode cX5_line 44 = .ok (.aload_n 0, 1) := dk_42 (dk_at dksX5_line_1 20 rfl rfl)
theorem dX5_line_45 : decode cX5_line 45 = .ok (.dup, 1) := dk_89 (dk_at dksX5_line_1 21 rfl rfl)
theorem dX5_line_46 : decode cX5_line 46 = .ok (.getfield 299, 3) := dk_180 1 43 (dk_at dksX5_line_2 0 rfl rfl)
theorem dX5_line_49 : decode cX5_line 49 = .ok (.dup_x1, 1) := dk_90 (dk_at dksX5_line_2 3 rfl rfl)
theorem dX5_line_50 : decode cX5_line 50 = .ok (.iconst 1, 1) := dk_4 (dk_at dksX5_line_2 4 rfl rfl)
theorem dX5_line_51 : decode cX5_line 51 = .ok (.iadd, 1) := dk_96 (dk_at dksX5_line_2 5 rfl rfl)
theorem dX5_line_52 : decode cX5_line 52 = .ok (.putfield 299, 3) := dk_181 1 43 (dk_at dksX5_line_2 6 rfl rfl)
theorem dX5_line_55 : decode cX5_line 55 = .ok (.aload_n 1, 1) := dk_43 (dk_at dksX5_line_2 9 rfl rfl)
theorem dX5_line_56 : decode cX5_line 56 = .ok (.aastore, 1) := dk_83 (dk_at dksX5_line_2 10 rfl rfl)
theorem dX5_line_57 : decode cX5_line 57 = .ok (.return_, 1) := dk_177 (dk_at dksX5_line_2 11 rfl rfl)
abbrev cX5_read : ByteArray := prog_9_method_6_code
def yX5_read : MethodName := ⟨RX5, "read", "(IIILNandHouse$Row;)V"⟩
def dkwX5_read_3 : List UInt8 := [21, 7, 96, 54, 5, 167, 255, 187, 25, 4, 29, 181, 0, 167, 177]
abbrev dktX5_read_3 : List UInt8 := dkwX5_read_3 ++ []
def dkwX5_read_2 : List UInt8 := [108, 182, 0, 154, 42, 180, 0, 26, 21, 6, 25, 4, 180, 0, 158, 21, 5, 21, 7, 184, 0, 161, 21, 5]
abbrev dktX5_read_2 : List UInt8 := dkwX5_read_2 ++ dktX5_read_3
def dkwX5_read_1 : List UInt8 := [29, 21, 5, 100, 17, 0, 128, 21, 6, 100, 184, 0, 148, 54, 7, 42, 27, 28, 21, 5, 96, 17, 0, 128]
abbrev dktX5_read_1 : List UInt8 := dkwX5_read_1 ++ dktX5_read_2
def dkwX5_read_0 : List UInt8 := [25, 4, 182, 0, 145, 3, 54, 5, 21, 5, 29, 162, 0, 69, 28, 21, 5, 96, 17, 0, 128, 112, 54, 6]
abbrev dktX5_read_0 : List UInt8 := dkwX5_read_0 ++ dktX5_read_1
theorem dksX5_read_0 : cX5_read.data.toList.drop 0 = dktX5_read_0 := by decide +kernel
theorem dksX5_read_1 : cX5_read.data.toList.drop 24 = dktX5_read_1 := dk_seg dksX5_read_0 24 rfl rfl
theorem dksX5_read_2 : cX5_read.data.toList.drop 48 = dktX5_read_2 := dk_seg dksX5_read_1 24 rfl rfl
theorem dksX5_read_3 : cX5_read.data.toList.drop 72 = dktX5_read_3 := dk_seg dksX5_read_2 24 rfl rfl
theorem dX5_read_0 : decode cX5_read 0 = .ok (.aload 4, 2) := dk_25 4 (dk_at dksX5_read_0 0 rfl rfl)
theorem dX5_read_2 : decode cX5_read 2 = .ok (.invokevirtual 145, 3) := dk_182 0 145 (dk_at dksX5_read_0 2 rfl rfl)
theorem dX5_read_5 : decode cX5_read 5 = .ok (.iconst 0, 1) := dk_3 (dk_at dksX5_read_0 5 rfl rfl)
theorem dX5_read_6 : decode cX5_read 6 = .ok (.istore 5, 2) := dk_54 5 (dk_at dksX5_read_0 6 rfl rfl)
theorem dX5_read_8 : decode cX5_read 8 = .ok (.iload 5, 2) := dk_21 5 (dk_at dksX5_read_0 8 rfl rfl)
theorem dX5_read_10 : decode cX5_read 10 = .ok (.iload_n 3, 1) := dk_29 (dk_at dksX5_read_0 10 rfl rfl)
theorem dX5_read_11 : decode cX5_read 11 = .ok (.if_icmp .ge 69, 3) := dk_162 0 69 (dk_at dksX5_read_0 11 rfl rfl)
theorem dX5_read_14 : decode cX5_read 14 = .ok (.iload_n 2, 1) := dk_28 (dk_at dksX5_read_0 14 rfl rfl)
theorem dX5_read_15 : decode cX5_read 15 = .ok (.iload 5, 2) := dk_21 5 (dk_at dksX5_read_0 15 rfl rfl)
theorem dX5_read_17 : decode cX5_read 17 = .ok (.iadd, 1) := dk_96 (dk_at dksX5_read_0 17 rfl rfl)
theorem dX5_read_18 : decode cX5_read 18 = .ok (.sipush 128, 3) := dk_17 0 128 (dk_at dksX5_read_0 18 rfl rfl)
theorem dX5_read_21 : decode cX5_read 21 = .ok (.irem, 1) := dk_112 (dk_at dksX5_read_0 21 rfl rfl)
theorem dX5_read_22 : decode cX5_read 22 = .ok (.istore 6, 2) := dk_54 6 (dk_at dksX5_read_0 22 rfl rfl)
theorem dX5_read_24 : decode cX5_read 24 = .ok (.iload_n 3, 1) := dk_29 (dk_at dksX5_read_1 0 rfl rfl)
theorem dX5_read_25 : decode cX5_read 25 = .ok (.iload 5, 2) := dk_21 5 (dk_at dksX5_read_1 1 rfl rfl)
theorem dX5_read_27 : decode cX5_read 27 = .ok (.isub, 1) := dk_100 (dk_at dksX5_read_1 3 rfl rfl)
theorem dX5_read_28 : decode cX5_read 28 = .ok (.sipush 128, 3) := dk_17 0 128 (dk_at dksX5_read_1 4 rfl rfl)
theorem dX5_read_31 : decode cX5_read 31 = .ok (.iload 6, 2) := dk_21 6 (dk_at dksX5_read_1 7 rfl rfl)
theorem dX5_read_33 : decode cX5_read 33 = .ok (.isub, 1) := dk_100 (dk_at dksX5_read_1 9 rfl rfl)
theorem dX5_read_34 : decode cX5_read 34 = .ok (.invokestatic 148, 3) := dk_184 0 148 (dk_at dksX5_read_1 10 rfl rfl)
theorem dX5_read_37 : decode cX5_read 37 = .ok (.istore 7, 2) := dk_54 7 (dk_at dksX5_read_1 13 rfl rfl)
theorem dX5_read_39 : decode cX5_read 39 = .ok (.aload_n 0, 1) := dk_42 (dk_at dksX5_read_1 15 rfl rfl)
theorem dX5_read_40 : decode cX5_read 40 = .ok (.iload_n 1, 1) := dk_27 (dk_at dksX5_read_1 16 rfl rfl)
theorem dX5_read_41 : decode cX5_read 41 = .ok (.iload_n 2, 1) := dk_28 (dk_at dksX5_read_1 17 rfl rfl)
theorem dX5_read_42 : decode cX5_read 42 = .ok (.iload 5, 2) := dk_21 5 (dk_at dksX5_read_1 18 rfl rfl)
theorem dX5_read_44 : decode cX5_read 44 = .ok (.iadd, 1) := dk_96 (dk_at dksX5_read_1 20 rfl rfl)
theorem dX5_read_45 : decode cX5_read 45 = .ok (.sipush 128, 3) := dk_17 0 128 (dk_at dksX5_read_1 21 rfl rfl)
theorem dX5_read_48 : decode cX5_read 48 = .ok (.idiv, 1) := dk_108 (dk_at dksX5_read_2 0 rfl rfl)
theorem dX5_read_49 : decode cX5_read 49 = .ok (.invokevirtual 154, 3) := dk_182 0 154 (dk_at dksX5_read_2 1 rfl rfl)
theorem dX5_read_52 : decode cX5_read 52 = .ok (.aload_n 0, 1) := dk_42 (dk_at dksX5_read_2 4 rfl rfl)
theorem dX5_read_53 : decode cX5_read 53 = .ok (.getfield 26, 3) := dk_180 0 26 (dk_at dksX5_read_2 5 rfl rfl)
theorem dX5_read_56 : decode cX5_read 56 = .ok (.iload 6, 2) := dk_21 6 (dk_at dksX5_read_2 8 rfl rfl)
theorem dX5_read_58 : decode cX5_read 58 = .ok (.aload 4, 2) := dk_25 4 (dk_at dksX5_read_2 10 rfl rfl)
theorem dX5_read_60 : decode cX5_read 60 = .ok (.getfield 158, 3) := dk_180 0 158 (dk_at dksX5_read_2 12 rfl rfl)
theorem dX5_read_63 : decode cX5_read 63 = .ok (.iload 5, 2) := dk_21 5 (dk_at dksX5_read_2 15 rfl rfl)
theorem dX5_read_65 : decode cX5_read 65 = .ok (.iload 7, 2) := dk_21 7 (dk_at dksX5_read_2 17 rfl rfl)
theorem dX5_read_67 : decode cX5_read 67 = .ok (.invokestatic 161, 3) := dk_184 0 161 (dk_at dksX5_read_2 19 rfl rfl)
theorem dX5_read_70 : decode cX5_read 70 = .ok (.iload 5, 2) := dk_21 5 (dk_at dksX5_read_2 22 rfl rfl)
theorem dX5_read_72 : decode cX5_read 72 = .ok (.iload 7, 2) := dk_21 7 (dk_at dksX5_read_3 0 rfl rfl)
theorem dX5_read_74 : decode cX5_read 74 = .ok (.iadd, 1) := dk_96 (dk_at dksX5_read_3 2 rfl rfl)
theorem dX5_read_75 : decode cX5_read 75 = .ok (.istore 5, 2) := dk_54 5 (dk_at dksX5_read_3 3 rfl rfl)
theorem dX5_read_77 : decode cX5_read 77 = .ok (.goto (-69), 3) := dk_167 255 187 (dk_at dksX5_read_3 5 rfl rfl)
theorem dX5_read_80 : decode cX5_read 80 = .ok (.aload 4, 2) := dk_25 4 (dk_at dksX5_read_3 8 rfl rfl)
theorem dX5_read_82 : decode cX5_read 82 = .ok (.iload_n 3, 1) := dk_29 (dk_at dksX5_read_3 10 rfl rfl)
theorem dX5_read_83 : decode cX5_read 83 = .ok (.putfield 167, 3) := dk_181 0 167 (dk_at dksX5_read_3 11 rfl rfl)
theorem dX5_read_86 : decode cX5_read 86 = .ok (.return_, 1) := dk_177 (dk_at dksX5_read_3 14 rfl rfl)
abbrev cX5_readPage : ByteArray := prog_9_method_5_code
def yX5_readPage : MethodName := ⟨RX5, "readPage", "(II)V"⟩
def dkwX5_readPage_2 : List UInt8 := [154, 0, 17, 42, 180, 0, 71, 27, 28, 42, 180, 0, 26, 3, 182, 0, 141, 177]
abbrev dktX5_readPage_2 : List UInt8 := dkwX5_readPage_2 ++ []
def dkwX5_readPage_1 : List UInt8 := [180, 0, 26, 3, 182, 0, 137, 154, 0, 34, 42, 180, 0, 124, 27, 28, 42, 180, 0, 26, 3, 182, 0, 137]
abbrev dktX5_readPage_1 : List UInt8 := dkwX5_readPage_1 ++ dktX5_readPage_2
def dkwX5_readPage_0 : List UInt8 := [42, 180, 0, 117, 27, 28, 42, 180, 0, 26, 3, 182, 0, 137, 154, 0, 51, 42, 180, 0, 121, 27, 28, 42]
abbrev dktX5_readPage_0 : List UInt8 := dkwX5_readPage_0 ++ dktX5_readPage_1
theorem dksX5_readPage_0 : cX5_readPage.data.toList.drop 0 = dktX5_readPage_0 := by decide +kernel
theorem dksX5_readPage_1 : cX5_readPage.data.toList.drop 24 = dktX5_readPage_1 := dk_seg dksX5_readPage_0 24 rfl rfl
theorem dksX5_readPage_2 : cX5_readPage.data.toList.drop 48 = dktX5_readPage_2 := dk_seg dksX5_readPage_1 24 rfl rfl
theorem dX5_readPage_0 : decode cX5_readPage 0 = .ok (.aload_n 0, 1) := dk_42 (dk_at dksX5_readPage_0 0 rfl rfl)
theorem dX5_readPage_1 : decode cX5_readPage 1 = .ok (.getfield 117, 3) := dk_180 0 117 (dk_at dksX5_readPage_0 1 rfl rfl)
theorem dX5_readPage_4 : decode cX5_readPage 4 = .ok (.iload_n 1, 1) := dk_27 (dk_at dksX5_readPage_0 4 rfl rfl)
theorem dX5_readPage_5 : decode cX5_readPage 5 = .ok (.iload_n 2, 1) := dk_28 (dk_at dksX5_readPage_0 5 rfl rfl)
theorem dX5_readPage_6 : decode cX5_readPage 6 = .ok (.aload_n 0, 1) := dk_42 (dk_at dksX5_readPage_0 6 rfl rfl)
theorem dX5_readPage_7 : decode cX5_readPage 7 = .ok (.getfield 26, 3) := dk_180 0 26 (dk_at dksX5_readPage_0 7 rfl rfl)
theorem dX5_readPage_10 : decode cX5_readPage 10 = .ok (.iconst 0, 1) := dk_3 (dk_at dksX5_readPage_0 10 rfl rfl)
theorem dX5_readPage_11 : decode cX5_readPage 11 = .ok (.invokevirtual 137, 3) := dk_182 0 137 (dk_at dksX5_readPage_0 11 rfl rfl)
theorem dX5_readPage_14 : decode cX5_readPage 14 = .ok (.ifCond .ne 51, 3) := dk_154 0 51 (dk_at dksX5_readPage_0 14 rfl rfl)
theorem dX5_readPage_17 : decode cX5_readPage 17 = .ok (.aload_n 0, 1) := dk_42 (dk_at dksX5_readPage_0 17 rfl rfl)
theorem dX5_readPage_18 : decode cX5_readPage 18 = .ok (.getfield 121, 3) := dk_180 0 121 (dk_at dksX5_readPage_0 18 rfl rfl)
theorem dX5_readPage_21 : decode cX5_readPage 21 = .ok (.iload_n 1, 1) := dk_27 (dk_at dksX5_readPage_0 21 rfl rfl)
theorem dX5_readPage_22 : decode cX5_readPage 22 = .ok (.iload_n 2, 1) := dk_28 (dk_at dksX5_readPage_0 22 rfl rfl)
theorem dX5_readPage_23 : decode cX5_readPage 23 = .ok (.aload_n 0, 1) := dk_42 (dk_at dksX5_readPage_0 23 rfl rfl)
theorem dX5_readPage_24 : decode cX5_readPage 24 = .ok (.getfield 26, 3) := dk_180 0 26 (dk_at dksX5_readPage_1 0 rfl rfl)
theorem dX5_readPage_27 : decode cX5_readPage 27 = .ok (.iconst 0, 1) := dk_3 (dk_at dksX5_readPage_1 3 rfl rfl)
theorem dX5_readPage_28 : decode cX5_readPage 28 = .ok (.invokevirtual 137, 3) := dk_182 0 137 (dk_at dksX5_readPage_1 4 rfl rfl)
theorem dX5_readPage_31 : decode cX5_readPage 31 = .ok (.ifCond .ne 34, 3) := dk_154 0 34 (dk_at dksX5_readPage_1 7 rfl rfl)
theorem dX5_readPage_34 : decode cX5_readPage 34 = .ok (.aload_n 0, 1) := dk_42 (dk_at dksX5_readPage_1 10 rfl rfl)
theorem dX5_readPage_35 : decode cX5_readPage 35 = .ok (.getfield 124, 3) := dk_180 0 124 (dk_at dksX5_readPage_1 11 rfl rfl)
theorem dX5_readPage_38 : decode cX5_readPage 38 = .ok (.iload_n 1, 1) := dk_27 (dk_at dksX5_readPage_1 14 rfl rfl)
theorem dX5_readPage_39 : decode cX5_readPage 39 = .ok (.iload_n 2, 1) := dk_28 (dk_at dksX5_readPage_1 15 rfl rfl)
theorem dX5_readPage_40 : decode cX5_readPage 40 = .ok (.aload_n 0, 1) := dk_42 (dk_at dksX5_readPage_1 16 rfl rfl)
theorem dX5_readPage_41 : decode cX5_readPage 41 = .ok (.getfield 26, 3) := dk_180 0 26 (dk_at dksX5_readPage_1 17 rfl rfl)
theorem dX5_readPage_44 : decode cX5_readPage 44 = .ok (.iconst 0, 1) := dk_3 (dk_at dksX5_readPage_1 20 rfl rfl)
theorem dX5_readPage_45 : decode cX5_readPage 45 = .ok (.invokevirtual 137, 3) := dk_182 0 137 (dk_at dksX5_readPage_1 21 rfl rfl)
theorem dX5_readPage_48 : decode cX5_readPage 48 = .ok (.ifCond .ne 17, 3) := dk_154 0 17 (dk_at dksX5_readPage_2 0 rfl rfl)
theorem dX5_readPage_51 : decode cX5_readPage 51 = .ok (.aload_n 0, 1) := dk_42 (dk_at dksX5_readPage_2 3 rfl rfl)
theorem dX5_readPage_52 : decode cX5_readPage 52 = .ok (.getfield 71, 3) := dk_180 0 71 (dk_at dksX5_readPage_2 4 rfl rfl)
theorem dX5_readPage_55 : decode cX5_readPage 55 = .ok (.iload_n 1, 1) := dk_27 (dk_at dksX5_readPage_2 7 rfl rfl)
theorem dX5_readPage_56 : decode cX5_readPage 56 = .ok (.iload_n 2, 1) := dk_28 (dk_at dksX5_readPage_2 8 rfl rfl)
theorem dX5_readPage_57 : decode cX5_readPage 57 = .ok (.aload_n 0, 1) := dk_42 (dk_at dksX5_readPage_2 9 rfl rfl)
theorem dX5_readPage_58 : decode cX5_readPage 58 = .ok (.getfield 26, 3) := dk_180 0 26 (dk_at dksX5_readPage_2 10 rfl rfl)
theorem dX5_readPage_61 : decode cX5_readPage 61 = .ok (.iconst 0, 1) := dk_3 (dk_at dksX5_readPage_2 13 rfl rfl)
theorem dX5_readPage_62 : decode cX5_readPage 62 = .ok (.invokevirtual 141, 3) := dk_182 0 141 (dk_at dksX5_readPage_2 14 rfl rfl)
theorem dX5_readPage_65 : decode cX5_readPage 65 = .ok (.return_, 1) := dk_177 (dk_at dksX5_readPage_2 17 rfl rfl)
abbrev cX5_hand : ByteArray := prog_9_method_9_code
def yX5_hand : MethodName := ⟨RX5, "hand", "(LNandHouse$Row;)V"⟩
def dkwX5_hand_7 : List UInt8 := [180, 0, 206, 29, 100, 181, 0, 206, 177]
abbrev dktX5_hand_7 : List UInt8 := dkwX5_hand_7 ++ []
def dkwX5_hand_6 : List UInt8 := [180, 0, 34, 21, 4, 29, 100, 42, 180, 0, 34, 21, 4, 46, 79, 132, 4, 1, 167, 255, 228, 42, 89]
abbrev dktX5_hand_6 : List UInt8 := dkwX5_hand_6 ++ dktX5_hand_7
def dkwX5_hand_5 : List UInt8 := [46, 28, 163, 0, 9, 132, 3, 1, 167, 255, 235, 29, 54, 4, 21, 4, 42, 180, 0, 206, 162, 0, 25, 42]
abbrev dktX5_hand_5 : List UInt8 := dkwX5_hand_5 ++ dktX5_hand_6
def dkwX5_hand_4 : List UInt8 := [180, 0, 134, 17, 0, 128, 112, 100, 61, 3, 62, 29, 42, 180, 0, 206, 162, 0, 19, 42, 180, 0, 34, 29]
abbrev dktX5_hand_4 : List UInt8 := dkwX5_hand_4 ++ dktX5_hand_5
def dkwX5_hand_3 : List UInt8 := [181, 0, 206, 42, 180, 0, 117, 180, 0, 134, 79, 42, 180, 0, 117, 180, 0, 134, 42, 180, 0, 117]
abbrev dktX5_hand_3 : List UInt8 := dkwX5_hand_3 ++ dktX5_hand_4
def dkwX5_hand_2 : List UInt8 := [43, 180, 0, 167, 182, 0, 199, 181, 0, 203, 42, 180, 0, 34, 42, 89, 180, 0, 206, 90, 4, 96]
abbrev dktX5_hand_2 : List UInt8 := dkwX5_hand_2 ++ dktX5_hand_3
def dkwX5_hand_1 : List UInt8 := [182, 0, 193, 42, 42, 180, 0, 117, 180, 0, 131, 181, 0, 196, 42, 42, 180, 0, 117, 43, 180, 0, 158, 3]
abbrev dktX5_hand_1 : List UInt8 := dkwX5_hand_1 ++ dktX5_hand_2
def dkwX5_hand_0 : List UInt8 := [42, 182, 0, 184, 42, 180, 0, 117, 43, 180, 0, 167, 182, 0, 187, 154, 0, 7, 42, 182, 0, 190, 42, 43]
abbrev dktX5_hand_0 : List UInt8 := dkwX5_hand_0 ++ dktX5_hand_1
theorem dksX5_hand_0 : cX5_hand.data.toList.drop 0 = dktX5_hand_0 := by decide +kernel
theorem dksX5_hand_1 : cX5_hand.data.toList.drop 24 = dktX5_hand_1 := dk_seg dksX5_hand_0 24 rfl rfl
theorem dksX5_hand_2 : cX5_hand.data.toList.drop 48 = dktX5_hand_2 := dk_seg dksX5_hand_1 24 rfl rfl
theorem dksX5_hand_3 : cX5_hand.data.toList.drop 70 = dktX5_hand_3 := dk_seg dksX5_hand_2 22 rfl rfl
theorem dksX5_hand_4 : cX5_hand.data.toList.drop 92 = dktX5_hand_4 := dk_seg dksX5_hand_3 22 rfl rfl
theorem dksX5_hand_5 : cX5_hand.data.toList.drop 116 = dktX5_hand_5 := dk_seg dksX5_hand_4 24 rfl rfl
theorem dksX5_hand_6 : cX5_hand.data.toList.drop 140 = dktX5_hand_6 := dk_seg dksX5_hand_5 24 rfl rfl
theorem dksX5_hand_7 : cX5_hand.data.toList.drop 163 = dktX5_hand_7 := dk_seg dksX5_hand_6 23 rfl rfl
theorem dX5_hand_0 : decode cX5_hand 0 = .ok (.aload_n 0, 1) := dk_42 (dk_at dksX5_hand_0 0 rfl rfl)
theorem dX5_hand_1 : decode cX5_hand 1 = .ok (.invokevirtual 184, 3) := dk_182 0 184 (dk_at dksX5_hand_0 1 rfl rfl)
theorem dX5_hand_4 : decode cX5_hand 4 = .ok (.aload_n 0, 1) := dk_42 (dk_at dksX5_hand_0 4 rfl rfl)
theorem dX5_hand_5 : decode cX5_hand 5 = .ok (.getfield 117, 3) := dk_180 0 117 (dk_at dksX5_hand_0 5 rfl rfl)
theorem dX5_hand_8 : decode cX5_hand 8 = .ok (.aload_n 1, 1) := dk_43 (dk_at dksX5_hand_0 8 rfl rfl)
theorem dX5_hand_9 : decode cX5_hand 9 = .ok (.getfield 167, 3) := dk_180 0 167 (dk_at dksX5_hand_0 9 rfl rfl)
theorem dX5_hand_12 : decode cX5_hand 12 = .ok (.invokevirtual 187, 3) := dk_182 0 187 (dk_at dksX5_hand_0 12 rfl rfl)
theorem dX5_hand_15 : decode cX5_hand 15 = .ok (.ifCond .ne 7, 3) := dk_154 0 7 (dk_at dksX5_hand_0 15 rfl rfl)
theorem dX5_hand_18 : decode cX5_hand 18 = .ok (.aload_n 0, 1) := dk_42 (dk_at dksX5_hand_0 18 rfl rfl)
theorem dX5_hand_19 : decode cX5_hand 19 = .ok (.invokevirtual 190, 3) := dk_182 0 190 (dk_at dksX5_hand_0 19 rfl rfl)
theorem dX5_hand_22 : decode cX5_hand 22 = .ok (.aload_n 0, 1) := dk_42 (dk_at dksX5_hand_0 22 rfl rfl)
theorem dX5_hand_23 : decode cX5_hand 23 = .ok (.aload_n 1, 1) := dk_43 (dk_at dksX5_hand_0 23 rfl rfl)
theorem dX5_hand_24 : decode cX5_hand 24 = .ok (.invokevirtual 193, 3) := dk_182 0 193 (dk_at dksX5_hand_1 0 rfl rfl)
theorem dX5_hand_27 : decode cX5_hand 27 = .ok (.aload_n 0, 1) := dk_42 (dk_at dksX5_hand_1 3 rfl rfl)
theorem dX5_hand_28 : decode cX5_hand 28 = .ok (.aload_n 0, 1) := dk_42 (dk_at dksX5_hand_1 4 rfl rfl)
theorem dX5_hand_29 : decode cX5_hand 29 = .ok (.getfield 117, 3) := dk_180 0 117 (dk_at dksX5_hand_1 5 rfl rfl)
theorem dX5_hand_32 : decode cX5_hand 32 = .ok (.getfield 131, 3) := dk_180 0 131 (dk_at dksX5_hand_1 8 rfl rfl)
theorem dX5_hand_35 : decode cX5_hand 35 = .ok (.putfield 196, 3) := dk_181 0 196 (dk_at dksX5_hand_1 11 rfl rfl)
theorem dX5_hand_38 : decode cX5_hand 38 = .ok (.aload_n 0, 1) := dk_42 (dk_at dksX5_hand_1 14 rfl rfl)
theorem dX5_hand_39 : decode cX5_hand 39 = .ok (.aload_n 0, 1) := dk_42 (dk_at dksX5_hand_1 15 rfl rfl)
theorem dX5_hand_40 : decode cX5_hand 40 = .ok (.getfield 117, 3) := dk_180 0 117 (dk_at dksX5_hand_1 16 rfl rfl)
theorem dX5_hand_43 : decode cX5_hand 43 = .ok (.aload_n 1, 1) := dk_43 (dk_at dksX5_hand_1 19 rfl rfl)
theorem dX5_hand_44 : decode cX5_hand 44 = .ok (.getfield 158, 3) := dk_180 0 158 (dk_at dksX5_hand_1 20 rfl rfl)
theorem dX5_hand_47 : decode cX5_hand 47 = .ok (.iconst 0, 1) := dk_3 (dk_at dksX5_hand_1 23 rfl rfl)
theorem dX5_hand_48 : decode cX5_hand 48 = .ok (.aload_n 1, 1) := dk_43 (dk_at dksX5_hand_2 0 rfl rfl)
theorem dX5_hand_49 : decode cX5_hand 49 = .ok (.getfield 167, 3) := dk_180 0 167 (dk_at dksX5_hand_2 1 rfl rfl)
theorem dX5_hand_52 : decode cX5_hand 52 = .ok (.invokevirtual 199, 3) := dk_182 0 199 (dk_at dksX5_hand_2 4 rfl rfl)
theorem dX5_hand_55 : decode cX5_hand 55 = .ok (.putfield 203, 3) := dk_181 0 203 (dk_at dksX5_hand_2 7 rfl rfl)
theorem dX5_hand_58 : decode cX5_hand 58 = .ok (.aload_n 0, 1) := dk_42 (dk_at dksX5_hand_2 10 rfl rfl)
theorem dX5_hand_59 : decode cX5_hand 59 = .ok (.getfield 34, 3) := dk_180 0 34 (dk_at dksX5_hand_2 11 rfl rfl)
theorem dX5_hand_62 : decode cX5_hand 62 = .ok (.aload_n 0, 1) := dk_42 (dk_at dksX5_hand_2 14 rfl rfl)
theorem dX5_hand_63 : decode cX5_hand 63 = .ok (.dup, 1) := dk_89 (dk_at dksX5_hand_2 15 rfl rfl)
theorem dX5_hand_64 : decode cX5_hand 64 = .ok (.getfield 206, 3) := dk_180 0 206 (dk_at dksX5_hand_2 16 rfl rfl)
theorem dX5_hand_67 : decode cX5_hand 67 = .ok (.dup_x1, 1) := dk_90 (dk_at dksX5_hand_2 19 rfl rfl)
theorem dX5_hand_68 : decode cX5_hand 68 = .ok (.iconst 1, 1) := dk_4 (dk_at dksX5_hand_2 20 rfl rfl)
theorem dX5_hand_69 : decode cX5_hand 69 = .ok (.iadd, 1) := dk_96 (dk_at dksX5_hand_2 21 rfl rfl)
theorem dX5_hand_70 : decode cX5_hand 70 = .ok (.putfield 206, 3) := dk_181 0 206 (dk_at dksX5_hand_3 0 rfl rfl)
theorem dX5_hand_73 : decode cX5_hand 73 = .ok (.aload_n 0, 1) := dk_42 (dk_at dksX5_hand_3 3 rfl rfl)
theorem dX5_hand_74 : decode cX5_hand 74 = .ok (.getfield 117, 3) := dk_180 0 117 (dk_at dksX5_hand_3 4 rfl rfl)
theorem dX5_hand_77 : decode cX5_hand 77 = .ok (.getfield 134, 3) := dk_180 0 134 (dk_at dksX5_hand_3 7 rfl rfl)
theorem dX5_hand_80 : decode cX5_hand 80 = .ok (.iastore, 1) := dk_79 (dk_at dksX5_hand_3 10 rfl rfl)
theorem dX5_hand_81 : decode cX5_hand 81 = .ok (.aload_n 0, 1) := dk_42 (dk_at dksX5_hand_3 11 rfl rfl)
theorem dX5_hand_82 : decode cX5_hand 82 = .ok (.getfield 117, 3) := dk_180 0 117 (dk_at dksX5_hand_3 12 rfl rfl)
theorem dX5_hand_85 : decode cX5_hand 85 = .ok (.getfield 134, 3) := dk_180 0 134 (dk_at dksX5_hand_3 15 rfl rfl)
theorem dX5_hand_88 : decode cX5_hand 88 = .ok (.aload_n 0, 1) := dk_42 (dk_at dksX5_hand_3 18 rfl rfl)
theorem dX5_hand_89 : decode cX5_hand 89 = .ok (.getfield 117, 3) := dk_180 0 117 (dk_at dksX5_hand_3 19 rfl rfl)
theorem dX5_hand_92 : decode cX5_hand 92 = .ok (.getfield 134, 3) := dk_180 0 134 (dk_at dksX5_hand_4 0 rfl rfl)
theorem dX5_hand_95 : decode cX5_hand 95 = .ok (.sipush 128, 3) := dk_17 0 128 (dk_at dksX5_hand_4 3 rfl rfl)
theorem dX5_hand_98 : decode cX5_hand 98 = .ok (.irem, 1) := dk_112 (dk_at dksX5_hand_4 6 rfl rfl)
theorem dX5_hand_99 : decode cX5_hand 99 = .ok (.isub, 1) := dk_100 (dk_at dksX5_hand_4 7 rfl rfl)
theorem dX5_hand_100 : decode cX5_hand 100 = .ok (.istore_n 2, 1) := dk_61 (dk_at dksX5_hand_4 8 rfl rfl)
theorem dX5_hand_101 : decode cX5_hand 101 = .ok (.iconst 0, 1) := dk_3 (dk_at dksX5_hand_4 9 rfl rfl)
theorem dX5_hand_102 : decode cX5_hand 102 = .ok (.istore_n 3, 1) := dk_62 (dk_at dksX5_hand_4 10 rfl rfl)
theorem dX5_hand_103 : decode cX5_hand 103 = .ok (.iload_n 3, 1) := dk_29 (dk_at dksX5_hand_4 11 rfl rfl)
theorem dX5_hand_104 : decode cX5_hand 104 = .ok (.aload_n 0, 1) := dk_42 (dk_at dksX5_hand_4 12 rfl rfl)
theorem dX5_hand_105 : decode cX5_hand 105 = .ok (.getfield 206, 3) := dk_180 0 206 (dk_at dksX5_hand_4 13 rfl rfl)
theorem dX5_hand_108 : decode cX5_hand 108 = .ok (.if_icmp .ge 19, 3) := dk_162 0 19 (dk_at dksX5_hand_4 16 rfl rfl)
theorem dX5_hand_111 : decode cX5_hand 111 = .ok (.aload_n 0, 1) := dk_42 (dk_at dksX5_hand_4 19 rfl rfl)
theorem dX5_hand_112 : decode cX5_hand 112 = .ok (.getfield 34, 3) := dk_180 0 34 (dk_at dksX5_hand_4 20 rfl rfl)
theorem dX5_hand_115 : decode cX5_hand 115 = .ok (.iload_n 3, 1) := dk_29 (dk_at dksX5_hand_4 23 rfl rfl)
theorem dX5_hand_116 : decode cX5_hand 116 = .ok (.iaload, 1) := dk_46 (dk_at dksX5_hand_5 0 rfl rfl)
theorem dX5_hand_117 : decode cX5_hand 117 = .ok (.iload_n 2, 1) := dk_28 (dk_at dksX5_hand_5 1 rfl rfl)
theorem dX5_hand_118 : decode cX5_hand 118 = .ok (.if_icmp .gt 9, 3) := dk_163 0 9 (dk_at dksX5_hand_5 2 rfl rfl)
theorem dX5_hand_121 : decode cX5_hand 121 = .ok (.iinc 3 1, 3) := dk_132 3 1 (dk_at dksX5_hand_5 5 rfl rfl)
theorem dX5_hand_124 : decode cX5_hand 124 = .ok (.goto (-21), 3) := dk_167 255 235 (dk_at dksX5_hand_5 8 rfl rfl)
theorem dX5_hand_127 : decode cX5_hand 127 = .ok (.iload_n 3, 1) := dk_29 (dk_at dksX5_hand_5 11 rfl rfl)
theorem dX5_hand_128 : decode cX5_hand 128 = .ok (.istore 4, 2) := dk_54 4 (dk_at dksX5_hand_5 12 rfl rfl)
theorem dX5_hand_130 : decode cX5_hand 130 = .ok (.iload 4, 2) := dk_21 4 (dk_at dksX5_hand_5 14 rfl rfl)
theorem dX5_hand_132 : decode cX5_hand 132 = .ok (.aload_n 0, 1) := dk_42 (dk_at dksX5_hand_5 16 rfl rfl)
theorem dX5_hand_133 : decode cX5_hand 133 = .ok (.getfield 206, 3) := dk_180 0 206 (dk_at dksX5_hand_5 17 rfl rfl)
theorem dX5_hand_136 : decode cX5_hand 136 = .ok (.if_icmp .ge 25, 3) := dk_162 0 25 (dk_at dksX5_hand_5 20 rfl rfl)
theorem dX5_hand_139 : decode cX5_hand 139 = .ok (.aload_n 0, 1) := dk_42 (dk_at dksX5_hand_5 23 rfl rfl)
theorem dX5_hand_140 : decode cX5_hand 140 = .ok (.getfield 34, 3) := dk_180 0 34 (dk_at dksX5_hand_6 0 rfl rfl)
theorem dX5_hand_143 : decode cX5_hand 143 = .ok (.iload 4, 2) := dk_21 4 (dk_at dksX5_hand_6 3 rfl rfl)
theorem dX5_hand_145 : decode cX5_hand 145 = .ok (.iload_n 3, 1) := dk_29 (dk_at dksX5_hand_6 5 rfl rfl)
theorem dX5_hand_146 : decode cX5_hand 146 = .ok (.isub, 1) := dk_100 (dk_at dksX5_hand_6 6 rfl rfl)
theorem dX5_hand_147 : decode cX5_hand 147 = .ok (.aload_n 0, 1) := dk_42 (dk_at dksX5_hand_6 7 rfl rfl)
theorem dX5_hand_148 : decode cX5_hand 148 = .ok (.getfield 34, 3) := dk_180 0 34 (dk_at dksX5_hand_6 8 rfl rfl)
theorem dX5_hand_151 : decode cX5_hand 151 = .ok (.iload 4, 2) := dk_21 4 (dk_at dksX5_hand_6 11 rfl rfl)
theorem dX5_hand_153 : decode cX5_hand 153 = .ok (.iaload, 1) := dk_46 (dk_at dksX5_hand_6 13 rfl rfl)
theorem dX5_hand_154 : decode cX5_hand 154 = .ok (.iastore, 1) := dk_79 (dk_at dksX5_hand_6 14 rfl rfl)
theorem dX5_hand_155 : decode cX5_hand 155 = .ok (.iinc 4 1, 3) := dk_132 4 1 (dk_at dksX5_hand_6 15 rfl rfl)
theorem dX5_hand_158 : decode cX5_hand 158 = .ok (.goto (-28), 3) := dk_167 255 228 (dk_at dksX5_hand_6 18 rfl rfl)
theorem dX5_hand_161 : decode cX5_hand 161 = .ok (.aload_n 0, 1) := dk_42 (dk_at dksX5_hand_6 21 rfl rfl)
theorem dX5_hand_162 : decode cX5_hand 162 = .ok (.dup, 1) := dk_89 (dk_at dksX5_hand_6 22 rfl rfl)
theorem dX5_hand_163 : decode cX5_hand 163 = .ok (.getfield 206, 3) := dk_180 0 206 (dk_at dksX5_hand_7 0 rfl rfl)
theorem dX5_hand_166 : decode cX5_hand 166 = .ok (.iload_n 3, 1) := dk_29 (dk_at dksX5_hand_7 3 rfl rfl)
theorem dX5_hand_167 : decode cX5_hand 167 = .ok (.isub, 1) := dk_100 (dk_at dksX5_hand_7 4 rfl rfl)
theorem dX5_hand_168 : decode cX5_hand 168 = .ok (.putfield 206, 3) := dk_181 0 206 (dk_at dksX5_hand_7 5 rfl rfl)
theorem dX5_hand_171 : decode cX5_hand 171 = .ok (.return_, 1) := dk_177 (dk_at dksX5_hand_7 8 rfl rfl)
abbrev cX5_bud : ByteArray := prog_9_method_11_code
def yX5_bud : MethodName := ⟨RX5, "bud", "()V"⟩
def dkwX5_bud_2 : List UInt8 := [182, 0, 241, 177]
abbrev dktX5_bud_2 : List UInt8 := dkwX5_bud_2 ++ []
def dkwX5_bud_1 : List UInt8 := [42, 182, 0, 232, 42, 180, 0, 79, 182, 0, 235, 60, 42, 27, 3, 182, 0, 238, 42, 180, 0, 117, 27]
abbrev dktX5_bud_1 : List UInt8 := dkwX5_bud_1 ++ dktX5_bud_2
def dkwX5_bud_0 : List UInt8 := [42, 182, 0, 223, 42, 180, 0, 117, 2, 181, 0, 131, 42, 180, 0, 226, 7, 160, 0, 7, 42, 182, 0, 229]
abbrev dktX5_bud_0 : List UInt8 := dkwX5_bud_0 ++ dktX5_bud_1
theorem dksX5_bud_0 : cX5_bud.data.toList.drop 0 = dktX5_bud_0 := by decide +kernel
theorem dksX5_bud_1 : cX5_bud.data.toList.drop 24 = dktX5_bud_1 := dk_seg dksX5_bud_0 24 rfl rfl
theorem dksX5_bud_2 : cX5_bud.data.toList.drop 47 = dktX5_bud_2 := dk_seg dksX5_bud_1 23 rfl rfl
theorem dX5_bud_0 : decode cX5_bud 0 = .ok (.aload_n 0, 1) := dk_42 (dk_at dksX5_bud_0 0 rfl rfl)
theorem dX5_bud_1 : decode cX5_bud 1 = .ok (.invokevirtual 223, 3) := dk_182 0 223 (dk_at dksX5_bud_0 1 rfl rfl)
theorem dX5_bud_4 : decode cX5_bud 4 = .ok (.aload_n 0, 1) := dk_42 (dk_at dksX5_bud_0 4 rfl rfl)
theorem dX5_bud_5 : decode cX5_bud 5 = .ok (.getfield 117, 3) := dk_180 0 117 (dk_at dksX5_bud_0 5 rfl rfl)
theorem dX5_bud_8 : decode cX5_bud 8 = .ok (.iconst (-1), 1) := dk_2 (dk_at dksX5_bud_0 8 rfl rfl)
theorem dX5_bud_9 : decode cX5_bud 9 = .ok (.putfield 131, 3) := dk_181 0 131 (dk_at dksX5_bud_0 9 rfl rfl)
theorem dX5_bud_12 : decode cX5_bud 12 = .ok (.aload_n 0, 1) := dk_42 (dk_at dksX5_bud_0 12 rfl rfl)
theorem dX5_bud_13 : decode cX5_bud 13 = .ok (.getfield 226, 3) := dk_180 0 226 (dk_at dksX5_bud_0 13 rfl rfl)
theorem dX5_bud_16 : decode cX5_bud 16 = .ok (.iconst 4, 1) := dk_7 (dk_at dksX5_bud_0 16 rfl rfl)
theorem dX5_bud_17 : decode cX5_bud 17 = .ok (.if_icmp .ne 7, 3) := dk_160 0 7 (dk_at dksX5_bud_0 17 rfl rfl)
theorem dX5_bud_20 : decode cX5_bud 20 = .ok (.aload_n 0, 1) := dk_42 (dk_at dksX5_bud_0 20 rfl rfl)
theorem dX5_bud_21 : decode cX5_bud 21 = .ok (.invokevirtual 229, 3) := dk_182 0 229 (dk_at dksX5_bud_0 21 rfl rfl)
theorem dX5_bud_24 : decode cX5_bud 24 = .ok (.aload_n 0, 1) := dk_42 (dk_at dksX5_bud_1 0 rfl rfl)
theorem dX5_bud_25 : decode cX5_bud 25 = .ok (.invokevirtual 232, 3) := dk_182 0 232 (dk_at dksX5_bud_1 1 rfl rfl)
theorem dX5_bud_28 : decode cX5_bud 28 = .ok (.aload_n 0, 1) := dk_42 (dk_at dksX5_bud_1 4 rfl rfl)
theorem dX5_bud_29 : decode cX5_bud 29 = .ok (.getfield 79, 3) := dk_180 0 79 (dk_at dksX5_bud_1 5 rfl rfl)
theorem dX5_bud_32 : decode cX5_bud 32 = .ok (.invokevirtual 235, 3) := dk_182 0 235 (dk_at dksX5_bud_1 8 rfl rfl)
theorem dX5_bud_35 : decode cX5_bud 35 = .ok (.istore_n 1, 1) := dk_60 (dk_at dksX5_bud_1 11 rfl rfl)
theorem dX5_bud_36 : decode cX5_bud 36 = .ok (.aload_n 0, 1) := dk_42 (dk_at dksX5_bud_1 12 rfl rfl)
theorem dX5_bud_37 : decode cX5_bud 37 = .ok (.iload_n 1, 1) := dk_27 (dk_at dksX5_bud_1 13 rfl rfl)
theorem dX5_bud_38 : decode cX5_bud 38 = .ok (.iconst 0, 1) := dk_3 (dk_at dksX5_bud_1 14 rfl rfl)
theorem dX5_bud_39 : decode cX5_bud 39 = .ok (.invokevirtual 238, 3) := dk_182 0 238 (dk_at dksX5_bud_1 15 rfl rfl)
theorem dX5_bud_42 : decode cX5_bud 42 = .ok (.aload_n 0, 1) := dk_42 (dk_at dksX5_bud_1 18 rfl rfl)
theorem dX5_bud_43 : decode cX5_bud 43 = .ok (.getfield 117, 3) := dk_180 0 117 (dk_at dksX5_bud_1 19 rfl rfl)
theorem dX5_bud_46 : decode cX5_bud 46 = .ok (.iload_n 1, 1) := dk_27 (dk_at dksX5_bud_1 22 rfl rfl)
theorem dX5_bud_47 : decode cX5_bud 47 = .ok (.invokevirtual 241, 3) := dk_182 0 241 (dk_at dksX5_bud_2 0 rfl rfl)
theorem dX5_bud_50 : decode cX5_bud 50 = .ok (.return_, 1) := dk_177 (dk_at dksX5_bud_2 3 rfl rfl)
abbrev cX5_sync : ByteArray := prog_9_method_12_code
def yX5_sync : MethodName := ⟨RX5, "sync", "()V"⟩
def dkwX5_sync_0 : List UInt8 := [42, 180, 0, 117, 182, 0, 244, 42, 3, 181, 0, 206, 177]
abbrev dktX5_sync_0 : List UInt8 := dkwX5_sync_0 ++ []
theorem dksX5_sync_0 : cX5_sync.data.toList.drop 0 = dktX5_sync_0 := by decide +kernel
theorem dX5_sync_0 : decode cX5_sync 0 = .ok (.aload_n 0, 1) := dk_42 (dk_at dksX5_sync_0 0 rfl rfl)
theorem dX5_sync_1 : decode cX5_sync 1 = .ok (.getfield 117, 3) := dk_180 0 117 (dk_at dksX5_sync_0 1 rfl rfl)
theorem dX5_sync_4 : decode cX5_sync 4 = .ok (.invokevirtual 244, 3) := dk_182 0 244 (dk_at dksX5_sync_0 4 rfl rfl)
theorem dX5_sync_7 : decode cX5_sync 7 = .ok (.aload_n 0, 1) := dk_42 (dk_at dksX5_sync_0 7 rfl rfl)
theorem dX5_sync_8 : decode cX5_sync 8 = .ok (.iconst 0, 1) := dk_3 (dk_at dksX5_sync_0 8 rfl rfl)
theorem dX5_sync_9 : decode cX5_sync 9 = .ok (.putfield 206, 3) := dk_181 0 206 (dk_at dksX5_sync_0 9 rfl rfl)
theorem dX5_sync_12 : decode cX5_sync 12 = .ok (.return_, 1) := dk_177 (dk_at dksX5_sync_0 12 rfl rfl)
abbrev cX5_makeRoom : ByteArray := prog_9_method_25_code
def yX5_makeRoom : MethodName := ⟨RX5, "makeRoom", "()V"⟩
def dkwX5_makeRoom_3 : List UInt8 := [182, 1, 152, 132, 2, 1, 167, 255, 184, 177]
abbrev dktX5_makeRoom_3 : List UInt8 := dkwX5_makeRoom_3 ++ []
def dkwX5_makeRoom_2 : List UInt8 := [180, 0, 58, 2, 159, 0, 17, 42, 180, 1, 133, 154, 0, 10, 42, 182, 1, 149, 167, 255, 237, 42]
abbrev dktX5_makeRoom_2 : List UInt8 := dkwX5_makeRoom_2 ++ dktX5_makeRoom_3
def dkwX5_makeRoom_1 : List UInt8 := [42, 180, 0, 58, 2, 160, 0, 18, 42, 3, 182, 1, 145, 154, 0, 10, 27, 153, 0, 4, 177, 4, 60, 42]
abbrev dktX5_makeRoom_1 : List UInt8 := dkwX5_makeRoom_1 ++ dktX5_makeRoom_2
def dkwX5_makeRoom_0 : List UInt8 := [3, 60, 3, 61, 28, 5, 42, 180, 0, 71, 180, 0, 83, 104, 162, 0, 65, 42, 182, 1, 142, 153, 0, 58]
abbrev dktX5_makeRoom_0 : List UInt8 := dkwX5_makeRoom_0 ++ dktX5_makeRoom_1
theorem dksX5_makeRoom_0 : cX5_makeRoom.data.toList.drop 0 = dktX5_makeRoom_0 := by decide +kernel
theorem dksX5_makeRoom_1 : cX5_makeRoom.data.toList.drop 24 = dktX5_makeRoom_1 := dk_seg dksX5_makeRoom_0 24 rfl rfl
theorem dksX5_makeRoom_2 : cX5_makeRoom.data.toList.drop 48 = dktX5_makeRoom_2 := dk_seg dksX5_makeRoom_1 24 rfl rfl
theorem dksX5_makeRoom_3 : cX5_makeRoom.data.toList.drop 70 = dktX5_makeRoom_3 := dk_seg dksX5_makeRoom_2 22 rfl rfl
theorem dX5_makeRoom_0 : decode cX5_makeRoom 0 = .ok (.iconst 0, 1) := dk_3 (dk_at dksX5_makeRoom_0 0 rfl rfl)
theorem dX5_makeRoom_1 : decode cX5_makeRoom 1 = .ok (.istore_n 1, 1) := dk_60 (dk_at dksX5_makeRoom_0 1 rfl rfl)
theorem dX5_makeRoom_2 : decode cX5_makeRoom 2 = .ok (.iconst 0, 1) := dk_3 (dk_at dksX5_makeRoom_0 2 rfl rfl)
theorem dX5_makeRoom_3 : decode cX5_makeRoom 3 = .ok (.istore_n 2, 1) := dk_61 (dk_at dksX5_makeRoom_0 3 rfl rfl)
theorem dX5_makeRoom_4 : decode cX5_makeRoom 4 = .ok (.iload_n 2, 1) := dk_28 (dk_at dksX5_makeRoom_0 4 rfl rfl)
theorem dX5_makeRoom_5 : decode cX5_makeRoom 5 = .ok (.iconst 2, 1) := dk_5 (dk_at dksX5_makeRoom_0 5 rfl rfl)
theorem dX5_makeRoom_6 : decode cX5_makeRoom 6 = .ok (.aload_n 0, 1) := dk_42 (dk_at dksX5_makeRoom_0 6 rfl rfl)
theorem dX5_makeRoom_7 : decode cX5_makeRoom 7 = .ok (.getfield 71, 3) := dk_180 0 71 (dk_at dksX5_makeRoom_0 7 rfl rfl)
theorem dX5_makeRoom_10 : decode cX5_makeRoom 10 = .ok (.getfield 83, 3) := dk_180 0 83 (dk_at dksX5_makeRoom_0 10 rfl rfl)
theorem dX5_makeRoom_13 : decode cX5_makeRoom 13 = .ok (.imul, 1) := dk_104 (dk_at dksX5_makeRoom_0 13 rfl rfl)
theorem dX5_makeRoom_14 : decode cX5_makeRoom 14 = .ok (.if_icmp .ge 65, 3) := dk_162 0 65 (dk_at dksX5_makeRoom_0 14 rfl rfl)
theorem dX5_makeRoom_17 : decode cX5_makeRoom 17 = .ok (.aload_n 0, 1) := dk_42 (dk_at dksX5_makeRoom_0 17 rfl rfl)
theorem dX5_makeRoom_18 : decode cX5_makeRoom 18 = .ok (.invokevirtual 398, 3) := dk_182 1 142 (dk_at dksX5_makeRoom_0 18 rfl rfl)
theorem dX5_makeRoom_21 : decode cX5_makeRoom 21 = .ok (.ifCond .eq 58, 3) := dk_153 0 58 (dk_at dksX5_makeRoom_0 21 rfl rfl)
theorem dX5_makeRoom_24 : decode cX5_makeRoom 24 = .ok (.aload_n 0, 1) := dk_42 (dk_at dksX5_makeRoom_1 0 rfl rfl)
theorem dX5_makeRoom_25 : decode cX5_makeRoom 25 = .ok (.getfield 58, 3) := dk_180 0 58 (dk_at dksX5_makeRoom_1 1 rfl rfl)
theorem dX5_makeRoom_28 : decode cX5_makeRoom 28 = .ok (.iconst (-1), 1) := dk_2 (dk_at dksX5_makeRoom_1 4 rfl rfl)
theorem dX5_makeRoom_29 : decode cX5_makeRoom 29 = .ok (.if_icmp .ne 18, 3) := dk_160 0 18 (dk_at dksX5_makeRoom_1 5 rfl rfl)
theorem dX5_makeRoom_32 : decode cX5_makeRoom 32 = .ok (.aload_n 0, 1) := dk_42 (dk_at dksX5_makeRoom_1 8 rfl rfl)
theorem dX5_makeRoom_33 : decode cX5_makeRoom 33 = .ok (.iconst 0, 1) := dk_3 (dk_at dksX5_makeRoom_1 9 rfl rfl)
theorem dX5_makeRoom_34 : decode cX5_makeRoom 34 = .ok (.invokevirtual 401, 3) := dk_182 1 145 (dk_at dksX5_makeRoom_1 10 rfl rfl)
theorem dX5_makeRoom_37 : decode cX5_makeRoom 37 = .ok (.ifCond .ne 10, 3) := dk_154 0 10 (dk_at dksX5_makeRoom_1 13 rfl rfl)
theorem dX5_makeRoom_40 : decode cX5_makeRoom 40 = .ok (.iload_n 1, 1) := dk_27 (dk_at dksX5_makeRoom_1 16 rfl rfl)
theorem dX5_makeRoom_41 : decode cX5_makeRoom 41 = .ok (.ifCond .eq 4, 3) := dk_153 0 4 (dk_at dksX5_makeRoom_1 17 rfl rfl)
theorem dX5_makeRoom_44 : decode cX5_makeRoom 44 = .ok (.return_, 1) := dk_177 (dk_at dksX5_makeRoom_1 20 rfl rfl)
theorem dX5_makeRoom_45 : decode cX5_makeRoom 45 = .ok (.iconst 1, 1) := dk_4 (dk_at dksX5_makeRoom_1 21 rfl rfl)
theorem dX5_makeRoom_46 : decode cX5_makeRoom 46 = .ok (.istore_n 1, 1) := dk_60 (dk_at dksX5_makeRoom_1 22 rfl rfl)
theorem dX5_makeRoom_47 : decode cX5_makeRoom 47 = .ok (.aload_n 0, 1) := dk_42 (dk_at dksX5_makeRoom_1 23 rfl rfl)
theorem dX5_makeRoom_48 : decode cX5_makeRoom 48 = .ok (.getfield 58, 3) := dk_180 0 58 (dk_at dksX5_makeRoom_2 0 rfl rfl)
theorem dX5_makeRoom_51 : decode cX5_makeRoom 51 = .ok (.iconst (-1), 1) := dk_2 (dk_at dksX5_makeRoom_2 3 rfl rfl)
theorem dX5_makeRoom_52 : decode cX5_makeRoom 52 = .ok (.if_icmp .eq 17, 3) := dk_159 0 17 (dk_at dksX5_makeRoom_2 4 rfl rfl)
theorem dX5_makeRoom_55 : decode cX5_makeRoom 55 = .ok (.aload_n 0, 1) := dk_42 (dk_at dksX5_makeRoom_2 7 rfl rfl)
theorem dX5_makeRoom_56 : decode cX5_makeRoom 56 = .ok (.getfield 389, 3) := dk_180 1 133 (dk_at dksX5_makeRoom_2 8 rfl rfl)
theorem dX5_makeRoom_59 : decode cX5_makeRoom 59 = .ok (.ifCond .ne 10, 3) := dk_154 0 10 (dk_at dksX5_makeRoom_2 11 rfl rfl)
theorem dX5_makeRoom_62 : decode cX5_makeRoom 62 = .ok (.aload_n 0, 1) := dk_42 (dk_at dksX5_makeRoom_2 14 rfl rfl)
theorem dX5_makeRoom_63 : decode cX5_makeRoom 63 = .ok (.invokevirtual 405, 3) := dk_182 1 149 (dk_at dksX5_makeRoom_2 15 rfl rfl)
theorem dX5_makeRoom_66 : decode cX5_makeRoom 66 = .ok (.goto (-19), 3) := dk_167 255 237 (dk_at dksX5_makeRoom_2 18 rfl rfl)
theorem dX5_makeRoom_69 : decode cX5_makeRoom 69 = .ok (.aload_n 0, 1) := dk_42 (dk_at dksX5_makeRoom_2 21 rfl rfl)
theorem dX5_makeRoom_70 : decode cX5_makeRoom 70 = .ok (.invokevirtual 408, 3) := dk_182 1 152 (dk_at dksX5_makeRoom_3 0 rfl rfl)
theorem dX5_makeRoom_73 : decode cX5_makeRoom 73 = .ok (.iinc 2 1, 3) := dk_132 2 1 (dk_at dksX5_makeRoom_3 3 rfl rfl)
theorem dX5_makeRoom_76 : decode cX5_makeRoom 76 = .ok (.goto (-72), 3) := dk_167 255 184 (dk_at dksX5_makeRoom_3 6 rfl rfl)
theorem dX5_makeRoom_79 : decode cX5_makeRoom 79 = .ok (.return_, 1) := dk_177 (dk_at dksX5_makeRoom_3 9 rfl rfl)
abbrev cX5_isShort : ByteArray := prog_9_method_26_code
def yX5_isShort : MethodName := ⟨RX5, "isShort", "()Z"⟩
def dkwX5_isShort_1 : List UInt8 := [42, 180, 0, 102, 104, 7, 96, 162, 0, 7, 4, 167, 0, 4, 3, 172]
abbrev dktX5_isShort_1 : List UInt8 := dkwX5_isShort_1 ++ []
def dkwX5_isShort_0 : List UInt8 := [42, 180, 0, 79, 182, 1, 13, 42, 180, 0, 102, 5, 96, 161, 0, 21, 42, 180, 0, 79, 182, 1, 155, 5]
abbrev dktX5_isShort_0 : List UInt8 := dkwX5_isShort_0 ++ dktX5_isShort_1
theorem dksX5_isShort_0 : cX5_isShort.data.toList.drop 0 = dktX5_isShort_0 := by decide +kernel
theorem dksX5_isShort_1 : cX5_isShort.data.toList.drop 24 = dktX5_isShort_1 := dk_seg dksX5_isShort_0 24 rfl rfl
theorem dX5_isShort_0 : decode cX5_isShort 0 = .ok (.aload_n 0, 1) := dk_42 (dk_at dksX5_isShort_0 0 rfl rfl)
theorem dX5_isShort_1 : decode cX5_isShort 1 = .ok (.getfield 79, 3) := dk_180 0 79 (dk_at dksX5_isShort_0 1 rfl rfl)
theorem dX5_isShort_4 : decode cX5_isShort 4 = .ok (.invokevirtual 269, 3) := dk_182 1 13 (dk_at dksX5_isShort_0 4 rfl rfl)
theorem dX5_isShort_7 : decode cX5_isShort 7 = .ok (.aload_n 0, 1) := dk_42 (dk_at dksX5_isShort_0 7 rfl rfl)
theorem dX5_isShort_8 : decode cX5_isShort 8 = .ok (.getfield 102, 3) := dk_180 0 102 (dk_at dksX5_isShort_0 8 rfl rfl)
theorem dX5_isShort_11 : decode cX5_isShort 11 = .ok (.iconst 2, 1) := dk_5 (dk_at dksX5_isShort_0 11 rfl rfl)
theorem dX5_isShort_12 : decode cX5_isShort 12 = .ok (.iadd, 1) := dk_96 (dk_at dksX5_isShort_0 12 rfl rfl)
theorem dX5_isShort_13 : decode cX5_isShort 13 = .ok (.if_icmp .lt 21, 3) := dk_161 0 21 (dk_at dksX5_isShort_0 13 rfl rfl)
theorem dX5_isShort_16 : decode cX5_isShort 16 = .ok (.aload_n 0, 1) := dk_42 (dk_at dksX5_isShort_0 16 rfl rfl)
theorem dX5_isShort_17 : decode cX5_isShort 17 = .ok (.getfield 79, 3) := dk_180 0 79 (dk_at dksX5_isShort_0 17 rfl rfl)
theorem dX5_isShort_20 : decode cX5_isShort 20 = .ok (.invokevirtual 411, 3) := dk_182 1 155 (dk_at dksX5_isShort_0 20 rfl rfl)
theorem dX5_isShort_23 : decode cX5_isShort 23 = .ok (.iconst 2, 1) := dk_5 (dk_at dksX5_isShort_0 23 rfl rfl)
theorem dX5_isShort_24 : decode cX5_isShort 24 = .ok (.aload_n 0, 1) := dk_42 (dk_at dksX5_isShort_1 0 rfl rfl)
theorem dX5_isShort_25 : decode cX5_isShort 25 = .ok (.getfield 102, 3) := dk_180 0 102 (dk_at dksX5_isShort_1 1 rfl rfl)
theorem dX5_isShort_28 : decode cX5_isShort 28 = .ok (.imul, 1) := dk_104 (dk_at dksX5_isShort_1 4 rfl rfl)
theorem dX5_isShort_29 : decode cX5_isShort 29 = .ok (.iconst 4, 1) := dk_7 (dk_at dksX5_isShort_1 5 rfl rfl)
theorem dX5_isShort_30 : decode cX5_isShort 30 = .ok (.iadd, 1) := dk_96 (dk_at dksX5_isShort_1 6 rfl rfl)
theorem dX5_isShort_31 : decode cX5_isShort 31 = .ok (.if_icmp .ge 7, 3) := dk_162 0 7 (dk_at dksX5_isShort_1 7 rfl rfl)
theorem dX5_isShort_34 : decode cX5_isShort 34 = .ok (.iconst 1, 1) := dk_4 (dk_at dksX5_isShort_1 10 rfl rfl)
theorem dX5_isShort_35 : decode cX5_isShort 35 = .ok (.goto 4, 3) := dk_167 0 4 (dk_at dksX5_isShort_1 11 rfl rfl)
theorem dX5_isShort_38 : decode cX5_isShort 38 = .ok (.iconst 0, 1) := dk_3 (dk_at dksX5_isShort_1 14 rfl rfl)
theorem dX5_isShort_39 : decode cX5_isShort 39 = .ok (.ireturn, 1) := dk_172 (dk_at dksX5_isShort_1 15 rfl rfl)
abbrev cX5_pick : ByteArray := prog_9_method_28_code
def yX5_pick : MethodName := ⟨RX5, "pick", "(Z)Z"⟩
def dkwX5_pick_5 : List UInt8 := [42, 28, 181, 0, 58, 42, 3, 181, 1, 158, 42, 3, 181, 1, 133, 4, 172]
abbrev dktX5_pick_5 : List UInt8 := dkwX5_pick_5 ++ []
def dkwX5_pick_4 : List UInt8 := [180, 0, 79, 180, 1, 107, 28, 46, 42, 180, 0, 79, 180, 0, 96, 17, 1, 0, 100, 164, 0, 5, 3, 172]
abbrev dktX5_pick_4 : List UInt8 := dkwX5_pick_4 ++ dktX5_pick_5
def dkwX5_pick_3 : List UInt8 := [180, 1, 107, 28, 46, 162, 0, 5, 29, 61, 132, 3, 1, 167, 255, 185, 28, 2, 159, 0, 26, 42]
abbrev dktX5_pick_3 : List UInt8 := dkwX5_pick_3 ++ dktX5_pick_4
def dkwX5_pick_2 : List UInt8 := [51, 154, 0, 31, 28, 2, 159, 0, 24, 42, 180, 0, 79, 180, 1, 107, 29, 46, 42, 180, 0, 79]
abbrev dktX5_pick_2 : List UInt8 := dkwX5_pick_2 ++ dktX5_pick_3
def dkwX5_pick_1 : List UInt8 := [180, 0, 79, 180, 1, 40, 29, 46, 4, 160, 0, 47, 27, 154, 0, 15, 42, 180, 0, 79, 180, 1, 112, 29]
abbrev dktX5_pick_1 : List UInt8 := dkwX5_pick_1 ++ dktX5_pick_2
def dkwX5_pick_0 : List UInt8 := [2, 61, 42, 180, 0, 79, 180, 0, 86, 62, 29, 42, 180, 0, 71, 180, 0, 83, 162, 0, 66, 42]
abbrev dktX5_pick_0 : List UInt8 := dkwX5_pick_0 ++ dktX5_pick_1
theorem dksX5_pick_0 : cX5_pick.data.toList.drop 0 = dktX5_pick_0 := by decide +kernel
theorem dksX5_pick_1 : cX5_pick.data.toList.drop 22 = dktX5_pick_1 := dk_seg dksX5_pick_0 22 rfl rfl
theorem dksX5_pick_2 : cX5_pick.data.toList.drop 46 = dktX5_pick_2 := dk_seg dksX5_pick_1 24 rfl rfl
theorem dksX5_pick_3 : cX5_pick.data.toList.drop 68 = dktX5_pick_3 := dk_seg dksX5_pick_2 22 rfl rfl
theorem dksX5_pick_4 : cX5_pick.data.toList.drop 90 = dktX5_pick_4 := dk_seg dksX5_pick_3 22 rfl rfl
theorem dksX5_pick_5 : cX5_pick.data.toList.drop 114 = dktX5_pick_5 := dk_seg dksX5_pick_4 24 rfl rfl
theorem dX5_pick_0 : decode cX5_pick 0 = .ok (.iconst (-1), 1) := dk_2 (dk_at dksX5_pick_0 0 rfl rfl)
theorem dX5_pick_1 : decode cX5_pick 1 = .ok (.istore_n 2, 1) := dk_61 (dk_at dksX5_pick_0 1 rfl rfl)
theorem dX5_pick_2 : decode cX5_pick 2 = .ok (.aload_n 0, 1) := dk_42 (dk_at dksX5_pick_0 2 rfl rfl)
theorem dX5_pick_3 : decode cX5_pick 3 = .ok (.getfield 79, 3) := dk_180 0 79 (dk_at dksX5_pick_0 3 rfl rfl)
theorem dX5_pick_6 : decode cX5_pick 6 = .ok (.getfield 86, 3) := dk_180 0 86 (dk_at dksX5_pick_0 6 rfl rfl)
theorem dX5_pick_9 : decode cX5_pick 9 = .ok (.istore_n 3, 1) := dk_62 (dk_at dksX5_pick_0 9 rfl rfl)
theorem dX5_pick_10 : decode cX5_pick 10 = .ok (.iload_n 3, 1) := dk_29 (dk_at dksX5_pick_0 10 rfl rfl)
theorem dX5_pick_11 : decode cX5_pick 11 = .ok (.aload_n 0, 1) := dk_42 (dk_at dksX5_pick_0 11 rfl rfl)
theorem dX5_pick_12 : decode cX5_pick 12 = .ok (.getfield 71, 3) := dk_180 0 71 (dk_at dksX5_pick_0 12 rfl rfl)
theorem dX5_pick_15 : decode cX5_pick 15 = .ok (.getfield 83, 3) := dk_180 0 83 (dk_at dksX5_pick_0 15 rfl rfl)
theorem dX5_pick_18 : decode cX5_pick 18 = .ok (.if_icmp .ge 66, 3) := dk_162 0 66 (dk_at dksX5_pick_0 18 rfl rfl)
theorem dX5_pick_21 : decode cX5_pick 21 = .ok (.aload_n 0, 1) := dk_42 (dk_at dksX5_pick_0 21 rfl rfl)
theorem dX5_pick_22 : decode cX5_pick 22 = .ok (.getfield 79, 3) := dk_180 0 79 (dk_at dksX5_pick_1 0 rfl rfl)
theorem dX5_pick_25 : decode cX5_pick 25 = .ok (.getfield 296, 3) := dk_180 1 40 (dk_at dksX5_pick_1 3 rfl rfl)
theorem dX5_pick_28 : decode cX5_pick 28 = .ok (.iload_n 3, 1) := dk_29 (dk_at dksX5_pick_1 6 rfl rfl)
theorem dX5_pick_29 : decode cX5_pick 29 = .ok (.iaload, 1) := dk_46 (dk_at dksX5_pick_1 7 rfl rfl)
theorem dX5_pick_30 : decode cX5_pick 30 = .ok (.iconst 1, 1) := dk_4 (dk_at dksX5_pick_1 8 rfl rfl)
theorem dX5_pick_31 : decode cX5_pick 31 = .ok (.if_icmp .ne 47, 3) := dk_160 0 47 (dk_at dksX5_pick_1 9 rfl rfl)
theorem dX5_pick_34 : decode cX5_pick 34 = .ok (.iload_n 1, 1) := dk_27 (dk_at dksX5_pick_1 12 rfl rfl)
theorem dX5_pick_35 : decode cX5_pick 35 = .ok (.ifCond .ne 15, 3) := dk_154 0 15 (dk_at dksX5_pick_1 13 rfl rfl)
theorem dX5_pick_38 : decode cX5_pick 38 = .ok (.aload_n 0, 1) := dk_42 (dk_at dksX5_pick_1 16 rfl rfl)
theorem dX5_pick_39 : decode cX5_pick 39 = .ok (.getfield 79, 3) := dk_180 0 79 (dk_at dksX5_pick_1 17 rfl rfl)
theorem dX5_pick_42 : decode cX5_pick 42 = .ok (.getfield 368, 3) := dk_180 1 112 (dk_at dksX5_pick_1 20 rfl rfl)
theorem dX5_pick_45 : decode cX5_pick 45 = .ok (.iload_n 3, 1) := dk_29 (dk_at dksX5_pick_1 23 rfl rfl)
theorem dX5_pick_46 : decode cX5_pick 46 = .ok (.baload, 1) := dk_51 (dk_at dksX5_pick_2 0 rfl rfl)
theorem dX5_pick_47 : decode cX5_pick 47 = .ok (.ifCond .ne 31, 3) := dk_154 0 31 (dk_at dksX5_pick_2 1 rfl rfl)
theorem dX5_pick_50 : decode cX5_pick 50 = .ok (.iload_n 2, 1) := dk_28 (dk_at dksX5_pick_2 4 rfl rfl)
theorem dX5_pick_51 : decode cX5_pick 51 = .ok (.iconst (-1), 1) := dk_2 (dk_at dksX5_pick_2 5 rfl rfl)
theorem dX5_pick_52 : decode cX5_pick 52 = .ok (.if_icmp .eq 24, 3) := dk_159 0 24 (dk_at dksX5_pick_2 6 rfl rfl)
theorem dX5_pick_55 : decode cX5_pick 55 = .ok (.aload_n 0, 1) := dk_42 (dk_at dksX5_pick_2 9 rfl rfl)
theorem dX5_pick_56 : decode cX5_pick 56 = .ok (.getfield 79, 3) := dk_180 0 79 (dk_at dksX5_pick_2 10 rfl rfl)
theorem dX5_pick_59 : decode cX5_pick 59 = .ok (.getfield 363, 3) := dk_180 1 107 (dk_at dksX5_pick_2 13 rfl rfl)
theorem dX5_pick_62 : decode cX5_pick 62 = .ok (.iload_n 3, 1) := dk_29 (dk_at dksX5_pick_2 16 rfl rfl)
theorem dX5_pick_63 : decode cX5_pick 63 = .ok (.iaload, 1) := dk_46 (dk_at dksX5_pick_2 17 rfl rfl)
theorem dX5_pick_64 : decode cX5_pick 64 = .ok (.aload_n 0, 1) := dk_42 (dk_at dksX5_pick_2 18 rfl rfl)
theorem dX5_pick_65 : decode cX5_pick 65 = .ok (.getfield 79, 3) := dk_180 0 79 (dk_at dksX5_pick_2 19 rfl rfl)
theorem dX5_pick_68 : decode cX5_pick 68 = .ok (.getfield 363, 3) := dk_180 1 107 (dk_at dksX5_pick_3 0 rfl rfl)
theorem dX5_pick_71 : decode cX5_pick 71 = .ok (.iload_n 2, 1) := dk_28 (dk_at dksX5_pick_3 3 rfl rfl)
theorem dX5_pick_72 : decode cX5_pick 72 = .ok (.iaload, 1) := dk_46 (dk_at dksX5_pick_3 4 rfl rfl)
theorem dX5_pick_73 : decode cX5_pick 73 = .ok (.if_icmp .ge 5, 3) := dk_162 0 5 (dk_at dksX5_pick_3 5 rfl rfl)
theorem dX5_pick_76 : decode cX5_pick 76 = .ok (.iload_n 3, 1) := dk_29 (dk_at dksX5_pick_3 8 rfl rfl)
theorem dX5_pick_77 : decode cX5_pick 77 = .ok (.istore_n 2, 1) := dk_61 (dk_at dksX5_pick_3 9 rfl rfl)
theorem dX5_pick_78 : decode cX5_pick 78 = .ok (.iinc 3 1, 3) := dk_132 3 1 (dk_at dksX5_pick_3 10 rfl rfl)
theorem dX5_pick_81 : decode cX5_pick 81 = .ok (.goto (-71), 3) := dk_167 255 185 (dk_at dksX5_pick_3 13 rfl rfl)
theorem dX5_pick_84 : decode cX5_pick 84 = .ok (.iload_n 2, 1) := dk_28 (dk_at dksX5_pick_3 16 rfl rfl)
theorem dX5_pick_85 : decode cX5_pick 85 = .ok (.iconst (-1), 1) := dk_2 (dk_at dksX5_pick_3 17 rfl rfl)
theorem dX5_pick_86 : decode cX5_pick 86 = .ok (.if_icmp .eq 26, 3) := dk_159 0 26 (dk_at dksX5_pick_3 18 rfl rfl)
theorem dX5_pick_89 : decode cX5_pick 89 = .ok (.aload_n 0, 1) := dk_42 (dk_at dksX5_pick_3 21 rfl rfl)
theorem dX5_pick_90 : decode cX5_pick 90 = .ok (.getfield 79, 3) := dk_180 0 79 (dk_at dksX5_pick_4 0 rfl rfl)
theorem dX5_pick_93 : decode cX5_pick 93 = .ok (.getfield 363, 3) := dk_180 1 107 (dk_at dksX5_pick_4 3 rfl rfl)
theorem dX5_pick_96 : decode cX5_pick 96 = .ok (.iload_n 2, 1) := dk_28 (dk_at dksX5_pick_4 6 rfl rfl)
theorem dX5_pick_97 : decode cX5_pick 97 = .ok (.iaload, 1) := dk_46 (dk_at dksX5_pick_4 7 rfl rfl)
theorem dX5_pick_98 : decode cX5_pick 98 = .ok (.aload_n 0, 1) := dk_42 (dk_at dksX5_pick_4 8 rfl rfl)
theorem dX5_pick_99 : decode cX5_pick 99 = .ok (.getfield 79, 3) := dk_180 0 79 (dk_at dksX5_pick_4 9 rfl rfl)
theorem dX5_pick_102 : decode cX5_pick 102 = .ok (.getfield 96, 3) := dk_180 0 96 (dk_at dksX5_pick_4 12 rfl rfl)
theorem dX5_pick_105 : decode cX5_pick 105 = .ok (.sipush 256, 3) := dk_17 1 0 (dk_at dksX5_pick_4 15 rfl rfl)
theorem dX5_pick_108 : decode cX5_pick 108 = .ok (.isub, 1) := dk_100 (dk_at dksX5_pick_4 18 rfl rfl)
theorem dX5_pick_109 : decode cX5_pick 109 = .ok (.if_icmp .le 5, 3) := dk_164 0 5 (dk_at dksX5_pick_4 19 rfl rfl)
theorem dX5_pick_112 : decode cX5_pick 112 = .ok (.iconst 0, 1) := dk_3 (dk_at dksX5_pick_4 22 rfl rfl)
theorem dX5_pick_113 : decode cX5_pick 113 = .ok (.ireturn, 1) := dk_172 (dk_at dksX5_pick_4 23 rfl rfl)
theorem dX5_pick_114 : decode cX5_pick 114 = .ok (.aload_n 0, 1) := dk_42 (dk_at dksX5_pick_5 0 rfl rfl)
theorem dX5_pick_115 : decode cX5_pick 115 = .ok (.iload_n 2, 1) := dk_28 (dk_at dksX5_pick_5 1 rfl rfl)
theorem dX5_pick_116 : decode cX5_pick 116 = .ok (.putfield 58, 3) := dk_181 0 58 (dk_at dksX5_pick_5 2 rfl rfl)
theorem dX5_pick_119 : decode cX5_pick 119 = .ok (.aload_n 0, 1) := dk_42 (dk_at dksX5_pick_5 5 rfl rfl)
theorem dX5_pick_120 : decode cX5_pick 120 = .ok (.iconst 0, 1) := dk_3 (dk_at dksX5_pick_5 6 rfl rfl)
theorem dX5_pick_121 : decode cX5_pick 121 = .ok (.putfield 414, 3) := dk_181 1 158 (dk_at dksX5_pick_5 7 rfl rfl)
theorem dX5_pick_124 : decode cX5_pick 124 = .ok (.aload_n 0, 1) := dk_42 (dk_at dksX5_pick_5 10 rfl rfl)
theorem dX5_pick_125 : decode cX5_pick 125 = .ok (.iconst 0, 1) := dk_3 (dk_at dksX5_pick_5 11 rfl rfl)
theorem dX5_pick_126 : decode cX5_pick 126 = .ok (.putfield 389, 3) := dk_181 1 133 (dk_at dksX5_pick_5 12 rfl rfl)
theorem dX5_pick_129 : decode cX5_pick 129 = .ok (.iconst 1, 1) := dk_4 (dk_at dksX5_pick_5 15 rfl rfl)
theorem dX5_pick_130 : decode cX5_pick 130 = .ok (.ireturn, 1) := dk_172 (dk_at dksX5_pick_5 16 rfl rfl)
abbrev cX5_collectStep : ByteArray := prog_9_method_29_code
def yX5_collectStep : MethodName := ⟨RX5, "collectStep", "()V"⟩
def dkwX5_collectStep_7 : List UInt8 := [42, 27, 182, 1, 198, 42, 89, 180, 1, 158, 27, 96, 181, 1, 158, 177]
abbrev dktX5_collectStep_7 : List UInt8 := dkwX5_collectStep_7 ++ []
def dkwX5_collectStep_6 : List UInt8 := [180, 1, 196, 42, 180, 0, 58, 160, 0, 22, 42, 180, 0, 108, 180, 1, 197, 42, 180, 1, 158, 160, 0, 8]
abbrev dktX5_collectStep_6 : List UInt8 := dkwX5_collectStep_6 ++ dktX5_collectStep_7
def dkwX5_collectStep_5 : List UInt8 := [180, 0, 16, 184, 1, 185, 42, 180, 0, 16, 184, 1, 189, 182, 1, 192, 153, 0, 36, 42, 180, 0, 108]
abbrev dktX5_collectStep_5 : List UInt8 := dkwX5_collectStep_5 ++ dktX5_collectStep_6
def dkwX5_collectStep_4 : List UInt8 := [182, 1, 178, 167, 0, 73, 42, 180, 0, 16, 182, 1, 168, 184, 1, 182, 153, 0, 60, 42, 180, 0, 108, 42]
abbrev dktX5_collectStep_4 : List UInt8 := dkwX5_collectStep_4 ++ dktX5_collectStep_5
def dkwX5_collectStep_3 : List UInt8 := [16, 8, 182, 1, 174, 42, 180, 0, 16, 16, 16, 182, 1, 174, 42, 180, 0, 58, 42, 180, 1, 158]
abbrev dktX5_collectStep_3 : List UInt8 := dkwX5_collectStep_3 ++ dktX5_collectStep_4
def dkwX5_collectStep_2 : List UInt8 := [182, 1, 168, 8, 160, 0, 47, 42, 180, 0, 108, 42, 180, 0, 16, 3, 182, 1, 171, 42, 180, 0, 16]
abbrev dktX5_collectStep_2 : List UInt8 := dkwX5_collectStep_2 ++ dktX5_collectStep_3
def dkwX5_collectStep_1 : List UInt8 := [181, 1, 133, 177, 27, 154, 0, 15, 42, 42, 180, 1, 158, 184, 1, 165, 181, 1, 158, 177, 42, 180, 0, 16]
abbrev dktX5_collectStep_1 : List UInt8 := dkwX5_collectStep_1 ++ dktX5_collectStep_2
def dkwX5_collectStep_0 : List UInt8 := [42, 42, 180, 0, 58, 42, 180, 1, 158, 42, 180, 0, 16, 182, 1, 161, 60, 27, 2, 160, 0, 9, 42, 4]
abbrev dktX5_collectStep_0 : List UInt8 := dkwX5_collectStep_0 ++ dktX5_collectStep_1
theorem dksX5_collectStep_0 : cX5_collectStep.data.toList.drop 0 = dktX5_collectStep_0 := by decide +kernel
theorem dksX5_collectStep_1 : cX5_collectStep.data.toList.drop 24 = dktX5_collectStep_1 := dk_seg dksX5_collectStep_0 24 rfl rfl
theorem dksX5_collectStep_2 : cX5_collectStep.data.toList.drop 48 = dktX5_collectStep_2 := dk_seg dksX5_collectStep_1 24 rfl rfl
theorem dksX5_collectStep_3 : cX5_collectStep.data.toList.drop 71 = dktX5_collectStep_3 := dk_seg dksX5_collectStep_2 23 rfl rfl
theorem dksX5_collectStep_4 : cX5_collectStep.data.toList.drop 93 = dktX5_collectStep_4 := dk_seg dksX5_collectStep_3 22 rfl rfl
theorem dksX5_collectStep_5 : cX5_collectStep.data.toList.drop 117 = dktX5_collectStep_5 := dk_seg dksX5_collectStep_4 24 rfl rfl
theorem dksX5_collectStep_6 : cX5_collectStep.data.toList.drop 140 = dktX5_collectStep_6 := dk_seg dksX5_collectStep_5 23 rfl rfl
theorem dksX5_collectStep_7 : cX5_collectStep.data.toList.drop 164 = dktX5_collectStep_7 := dk_seg dksX5_collectStep_6 24 rfl rfl
theorem dX5_collectStep_0 : decode cX5_collectStep 0 = .ok (.aload_n 0, 1) := dk_42 (dk_at dksX5_collectStep_0 0 rfl rfl)
theorem dX5_collectStep_1 : decode cX5_collectStep 1 = .ok (.aload_n 0, 1) := dk_42 (dk_at dksX5_collectStep_0 1 rfl rfl)
theorem dX5_collectStep_2 : decode cX5_collectStep 2 = .ok (.getfield 58, 3) := dk_180 0 58 (dk_at dksX5_collectStep_0 2 rfl rfl)
theorem dX5_collectStep_5 : decode cX5_collectStep 5 = .ok (.aload_n 0, 1) := dk_42 (dk_at dksX5_collectStep_0 5 rfl rfl)
theorem dX5_collectStep_6 : decode cX5_collectStep 6 = .ok (.getfield 414, 3) := dk_180 1 158 (dk_at dksX5_collectStep_0 6 rfl rfl)
theorem dX5_collectStep_9 : decode cX5_collectStep 9 = .ok (.aload_n 0, 1) := dk_42 (dk_at dksX5_collectStep_0 9 rfl rfl)
theorem dX5_collectStep_10 : decode cX5_collectStep 10 = .ok (.getfield 16, 3) := dk_180 0 16 (dk_at dksX5_collectStep_0 10 rfl rfl)
theorem dX5_collectStep_13 : decode cX5_collectStep 13 = .ok (.invokevirtual 417, 3) := dk_182 1 161 (dk_at dksX5_collectStep_0 13 rfl rfl)
theorem dX5_collectStep_16 : decode cX5_collectStep 16 = .ok (.istore_n 1, 1) := dk_60 (dk_at dksX5_collectStep_0 16 rfl rfl)
theorem dX5_collectStep_17 : decode cX5_collectStep 17 = .ok (.iload_n 1, 1) := dk_27 (dk_at dksX5_collectStep_0 17 rfl rfl)
theorem dX5_collectStep_18 : decode cX5_collectStep 18 = .ok (.iconst (-1), 1) := dk_2 (dk_at dksX5_collectStep_0 18 rfl rfl)
theorem dX5_collectStep_19 : decode cX5_collectStep 19 = .ok (.if_icmp .ne 9, 3) := dk_160 0 9 (dk_at dksX5_collectStep_0 19 rfl rfl)
theorem dX5_collectStep_22 : decode cX5_collectStep 22 = .ok (.aload_n 0, 1) := dk_42 (dk_at dksX5_collectStep_0 22 rfl rfl)
theorem dX5_collectStep_23 : decode cX5_collectStep 23 = .ok (.iconst 1, 1) := dk_4 (dk_at dksX5_collectStep_0 23 rfl rfl)
theorem dX5_collectStep_24 : decode cX5_collectStep 24 = .ok (.putfield 389, 3) := dk_181 1 133 (dk_at dksX5_collectStep_1 0 rfl rfl)
theorem dX5_collectStep_27 : decode cX5_collectStep 27 = .ok (.return_, 1) := dk_177 (dk_at dksX5_collectStep_1 3 rfl rfl)
theorem dX5_collectStep_28 : decode cX5_collectStep 28 = .ok (.iload_n 1, 1) := dk_27 (dk_at dksX5_collectStep_1 4 rfl rfl)
theorem dX5_collectStep_29 : decode cX5_collectStep 29 = .ok (.ifCond .ne 15, 3) := dk_154 0 15 (dk_at dksX5_collectStep_1 5 rfl rfl)
theorem dX5_collectStep_32 : decode cX5_collectStep 32 = .ok (.aload_n 0, 1) := dk_42 (dk_at dksX5_collectStep_1 8 rfl rfl)
theorem dX5_collectStep_33 : decode cX5_collectStep 33 = .ok (.aload_n 0, 1) := dk_42 (dk_at dksX5_collectStep_1 9 rfl rfl)
theorem dX5_collectStep_34 : decode cX5_collectStep 34 = .ok (.getfield 414, 3) := dk_180 1 158 (dk_at dksX5_collectStep_1 10 rfl rfl)
theorem dX5_collectStep_37 : decode cX5_collectStep 37 = .ok (.invokestatic 421, 3) := dk_184 1 165 (dk_at dksX5_collectStep_1 13 rfl rfl)
theorem dX5_collectStep_40 : decode cX5_collectStep 40 = .ok (.putfield 414, 3) := dk_181 1 158 (dk_at dksX5_collectStep_1 16 rfl rfl)
theorem dX5_collectStep_43 : decode cX5_collectStep 43 = .ok (.return_, 1) := dk_177 (dk_at dksX5_collectStep_1 19 rfl rfl)
theorem dX5_collectStep_44 : decode cX5_collectStep 44 = .ok (.aload_n 0, 1) := dk_42 (dk_at dksX5_collectStep_1 20 rfl rfl)
theorem dX5_collectStep_45 : decode cX5_collectStep 45 = .ok (.getfield 16, 3) := dk_180 0 16 (dk_at dksX5_collectStep_1 21 rfl rfl)
theorem dX5_collectStep_48 : decode cX5_collectStep 48 = .ok (.invokevirtual 424, 3) := dk_182 1 168 (dk_at dksX5_collectStep_2 0 rfl rfl)
theorem dX5_collectStep_51 : decode cX5_collectStep 51 = .ok (.iconst 5, 1) := dk_8 (dk_at dksX5_collectStep_2 3 rfl rfl)
theorem dX5_collectStep_52 : decode cX5_collectStep 52 = .ok (.if_icmp .ne 47, 3) := dk_160 0 47 (dk_at dksX5_collectStep_2 4 rfl rfl)
theorem dX5_collectStep_55 : decode cX5_collectStep 55 = .ok (.aload_n 0, 1) := dk_42 (dk_at dksX5_collectStep_2 7 rfl rfl)
theorem dX5_collectStep_56 : decode cX5_collectStep 56 = .ok (.getfield 108, 3) := dk_180 0 108 (dk_at dksX5_collectStep_2 8 rfl rfl)
theorem dX5_collectStep_59 : decode cX5_collectStep 59 = .ok (.aload_n 0, 1) := dk_42 (dk_at dksX5_collectStep_2 11 rfl rfl)
theorem dX5_collectStep_60 : decode cX5_collectStep 60 = .ok (.getfield 16, 3) := dk_180 0 16 (dk_at dksX5_collectStep_2 12 rfl rfl)
theorem dX5_collectStep_63 : decode cX5_collectStep 63 = .ok (.iconst 0, 1) := dk_3 (dk_at dksX5_collectStep_2 15 rfl rfl)
theorem dX5_collectStep_64 : decode cX5_collectStep 64 = .ok (.invokevirtual 427, 3) := dk_182 1 171 (dk_at dksX5_collectStep_2 16 rfl rfl)
theorem dX5_collectStep_67 : decode cX5_collectStep 67 = .ok (.aload_n 0, 1) := dk_42 (dk_at dksX5_collectStep_2 19 rfl rfl)
theorem dX5_collectStep_68 : decode cX5_collectStep 68 = .ok (.getfield 16, 3) := dk_180 0 16 (dk_at dksX5_collectStep_2 20 rfl rfl)
theorem dX5_collectStep_71 : decode cX5_collectStep 71 = .ok (.bipush 8, 2) := dk_16 8 (dk_at dksX5_collectStep_3 0 rfl rfl)
theorem dX5_collectStep_73 : decode cX5_collectStep 73 = .ok (.invokevirtual 430, 3) := dk_182 1 174 (dk_at dksX5_collectStep_3 2 rfl rfl)
theorem dX5_collectStep_76 : decode cX5_collectStep 76 = .ok (.aload_n 0, 1) := dk_42 (dk_at dksX5_collectStep_3 5 rfl rfl)
theorem dX5_collectStep_77 : decode cX5_collectStep 77 = .ok (.getfield 16, 3) := dk_180 0 16 (dk_at dksX5_collectStep_3 6 rfl rfl)
theorem dX5_collectStep_80 : decode cX5_collectStep 80 = .ok (.bipush 16, 2) := dk_16 16 (dk_at dksX5_collectStep_3 9 rfl rfl)
theorem dX5_collectStep_82 : decode cX5_collectStep 82 = .ok (.invokevirtual 430, 3) := dk_182 1 174 (dk_at dksX5_collectStep_3 11 rfl rfl)
theorem dX5_collectStep_85 : decode cX5_collectStep 85 = .ok (.aload_n 0, 1) := dk_42 (dk_at dksX5_collectStep_3 14 rfl rfl)
theorem dX5_collectStep_86 : decode cX5_collectStep 86 = .ok (.getfield 58, 3) := dk_180 0 58 (dk_at dksX5_collectStep_3 15 rfl rfl)
theorem dX5_collectStep_89 : decode cX5_collectStep 89 = .ok (.aload_n 0, 1) := dk_42 (dk_at dksX5_collectStep_3 18 rfl rfl)
theorem dX5_collectStep_90 : decode cX5_collectStep 90 = .ok (.getfield 414, 3) := dk_180 1 158 (dk_at dksX5_collectStep_3 19 rfl rfl)
theorem dX5_collectStep_93 : decode cX5_collectStep 93 = .ok (.invokevirtual 434, 3) := dk_182 1 178 (dk_at dksX5_collectStep_4 0 rfl rfl)
theorem dX5_collectStep_96 : decode cX5_collectStep 96 = .ok (.goto 73, 3) := dk_167 0 73 (dk_at dksX5_collectStep_4 3 rfl rfl)
theorem dX5_collectStep_99 : decode cX5_collectStep 99 = .ok (.aload_n 0, 1) := dk_42 (dk_at dksX5_collectStep_4 6 rfl rfl)
theorem dX5_collectStep_100 : decode cX5_collectStep 100 = .ok (.getfield 16, 3) := dk_180 0 16 (dk_at dksX5_collectStep_4 7 rfl rfl)
theorem dX5_collectStep_103 : decode cX5_collectStep 103 = .ok (.invokevirtual 424, 3) := dk_182 1 168 (dk_at dksX5_collectStep_4 10 rfl rfl)
theorem dX5_collectStep_106 : decode cX5_collectStep 106 = .ok (.invokestatic 438, 3) := dk_184 1 182 (dk_at dksX5_collectStep_4 13 rfl rfl)
theorem dX5_collectStep_109 : decode cX5_collectStep 109 = .ok (.ifCond .eq 60, 3) := dk_153 0 60 (dk_at dksX5_collectStep_4 16 rfl rfl)
theorem dX5_collectStep_112 : decode cX5_collectStep 112 = .ok (.aload_n 0, 1) := dk_42 (dk_at dksX5_collectStep_4 19 rfl rfl)
theorem dX5_collectStep_113 : decode cX5_collectStep 113 = .ok (.getfield 108, 3) := dk_180 0 108 (dk_at dksX5_collectStep_4 20 rfl rfl)
theorem dX5_collectStep_116 : decode cX5_collectStep 116 = .ok (.aload_n 0, 1) := dk_42 (dk_at dksX5_collectStep_4 23 rfl rfl)
theorem dX5_collectStep_117 : decode cX5_collectStep 117 = .ok (.getfield 16, 3) := dk_180 0 16 (dk_at dksX5_collectStep_5 0 rfl rfl)
theorem dX5_collectStep_120 : decode cX5_collectStep 120 = .ok (.invokestatic 441, 3) := dk_184 1 185 (dk_at dksX5_collectStep_5 3 rfl rfl)
theorem dX5_collectStep_123 : decode cX5_collectStep 123 = .ok (.aload_n 0, 1) := dk_42 (dk_at dksX5_collectStep_5 6 rfl rfl)
theorem dX5_collectStep_124 : decode cX5_collectStep 124 = .ok (.getfield 16, 3) := dk_180 0 16 (dk_at dksX5_collectStep_5 7 rfl rfl)
theorem dX5_collectStep_127 : decode cX5_collectStep 127 = .ok (.invokestatic 445, 3) := dk_184 1 189 (dk_at dksX5_collectStep_5 10 rfl rfl)
theorem dX5_collectStep_130 : decode cX5_collectStep 130 = .ok (.invokevirtual 448, 3) := dk_182 1 192 (dk_at dksX5_collectStep_5 13 rfl rfl)
theorem dX5_collectStep_133 : decode cX5_collectStep 133 = .ok (.ifCond .eq 36, 3) := dk_153 0 36 (dk_at dksX5_collectStep_5 16 rfl rfl)
theorem dX5_collectStep_136 : decode cX5_collectStep 136 = .ok (.aload_n 0, 1) := dk_42 (dk_at dksX5_collectStep_5 19 rfl rfl)
theorem dX5_collectStep_137 : decode cX5_collectStep 137 = .ok (.getfield 108, 3) := dk_180 0 108 (dk_at dksX5_collectStep_5 20 rfl rfl)
theorem dX5_collectStep_140 : decode cX5_collectStep 140 = .ok (.getfield 452, 3) := dk_180 1 196 (dk_at dksX5_collectStep_6 0 rfl rfl)
theorem dX5_collectStep_143 : decode cX5_collectStep 143 = .ok (.aload_n 0, 1) := dk_42 (dk_at dksX5_collectStep_6 3 rfl rfl)
theorem dX5_collectStep_144 : decode cX5_collectStep 144 = .ok (.getfield 58, 3) := dk_180 0 58 (dk_at dksX5_collectStep_6 4 rfl rfl)
theorem dX5_collectStep_147 : decode cX5_collectStep 147 = .ok (.if_icmp .ne 22, 3) := dk_160 0 22 (dk_at dksX5_collectStep_6 7 rfl rfl)
theorem dX5_collectStep_150 : decode cX5_collectStep 150 = .ok (.aload_n 0, 1) := dk_42 (dk_at dksX5_collectStep_6 10 rfl rfl)
theorem dX5_collectStep_151 : decode cX5_collectStep 151 = .ok (.getfield 108, 3) := dk_180 0 108 (dk_at dksX5_collectStep_6 11 rfl rfl)
theorem dX5_collectStep_154 : decode cX5_collectStep 154 = .ok (.getfield 453, 3) := dk_180 1 197 (dk_at dksX5_collectStep_6 14 rfl rfl)
theorem dX5_collectStep_157 : decode cX5_collectStep 157 = .ok (.aload_n 0, 1) := dk_42 (dk_at dksX5_collectStep_6 17 rfl rfl)
theorem dX5_collectStep_158 : decode cX5_collectStep 158 = .ok (.getfield 414, 3) := dk_180 1 158 (dk_at dksX5_collectStep_6 18 rfl rfl)
theorem dX5_collectStep_161 : decode cX5_collectStep 161 = .ok (.if_icmp .ne 8, 3) := dk_160 0 8 (dk_at dksX5_collectStep_6 21 rfl rfl)
theorem dX5_collectStep_164 : decode cX5_collectStep 164 = .ok (.aload_n 0, 1) := dk_42 (dk_at dksX5_collectStep_7 0 rfl rfl)
theorem dX5_collectStep_165 : decode cX5_collectStep 165 = .ok (.iload_n 1, 1) := dk_27 (dk_at dksX5_collectStep_7 1 rfl rfl)
theorem dX5_collectStep_166 : decode cX5_collectStep 166 = .ok (.invokevirtual 454, 3) := dk_182 1 198 (dk_at dksX5_collectStep_7 2 rfl rfl)
theorem dX5_collectStep_169 : decode cX5_collectStep 169 = .ok (.aload_n 0, 1) := dk_42 (dk_at dksX5_collectStep_7 5 rfl rfl)
theorem dX5_collectStep_170 : decode cX5_collectStep 170 = .ok (.dup, 1) := dk_89 (dk_at dksX5_collectStep_7 6 rfl rfl)
theorem dX5_collectStep_171 : decode cX5_collectStep 171 = .ok (.getfield 414, 3) := dk_180 1 158 (dk_at dksX5_collectStep_7 7 rfl rfl)
theorem dX5_collectStep_174 : decode cX5_collectStep 174 = .ok (.iload_n 1, 1) := dk_27 (dk_at dksX5_collectStep_7 10 rfl rfl)
theorem dX5_collectStep_175 : decode cX5_collectStep 175 = .ok (.iadd, 1) := dk_96 (dk_at dksX5_collectStep_7 11 rfl rfl)
theorem dX5_collectStep_176 : decode cX5_collectStep 176 = .ok (.putfield 414, 3) := dk_181 1 158 (dk_at dksX5_collectStep_7 12 rfl rfl)
theorem dX5_collectStep_179 : decode cX5_collectStep 179 = .ok (.return_, 1) := dk_177 (dk_at dksX5_collectStep_7 15 rfl rfl)
abbrev cX5_look : ByteArray := prog_9_method_7_code
def yX5_look : MethodName := ⟨RX5, "look", "(IILNandHouse$Row;)I"⟩
def dkwX5_look_4 : List UInt8 := [167, 0, 4, 2, 172]
abbrev dktX5_look_4 : List UInt8 := dkwX5_look_4 ++ []
def dkwX5_look_3 : List UInt8 := [2, 172, 42, 27, 28, 21, 5, 45, 182, 0, 173, 45, 17, 1, 64, 182, 0, 180, 153, 0, 8, 21, 5]
abbrev dktX5_look_3 : List UInt8 := dkwX5_look_3 ++ dktX5_look_4
def dkwX5_look_2 : List UInt8 := [21, 5, 16, 24, 161, 0, 20, 21, 5, 17, 1, 64, 163, 0, 12, 28, 21, 5, 96, 21, 4, 164, 0, 5]
abbrev dktX5_look_2 : List UInt8 := dkwX5_look_2 ++ dktX5_look_3
def dkwX5_look_1 : List UInt8 := [172, 42, 27, 28, 16, 8, 45, 182, 0, 173, 45, 182, 0, 176, 54, 5, 21, 5, 154, 0, 5, 3, 172]
abbrev dktX5_look_1 : List UInt8 := dkwX5_look_1 ++ dktX5_look_2
def dkwX5_look_0 : List UInt8 := [42, 180, 0, 71, 27, 182, 0, 170, 17, 0, 128, 104, 54, 4, 28, 16, 8, 96, 21, 4, 164, 0, 5, 2]
abbrev dktX5_look_0 : List UInt8 := dkwX5_look_0 ++ dktX5_look_1
theorem dksX5_look_0 : cX5_look.data.toList.drop 0 = dktX5_look_0 := by decide +kernel
theorem dksX5_look_1 : cX5_look.data.toList.drop 24 = dktX5_look_1 := dk_seg dksX5_look_0 24 rfl rfl
theorem dksX5_look_2 : cX5_look.data.toList.drop 47 = dktX5_look_2 := dk_seg dksX5_look_1 23 rfl rfl
theorem dksX5_look_3 : cX5_look.data.toList.drop 71 = dktX5_look_3 := dk_seg dksX5_look_2 24 rfl rfl
theorem dksX5_look_4 : cX5_look.data.toList.drop 94 = dktX5_look_4 := dk_seg dksX5_look_3 23 rfl rfl
theorem dX5_look_0 : decode cX5_look 0 = .ok (.aload_n 0, 1) := dk_42 (dk_at dksX5_look_0 0 rfl rfl)
theorem dX5_look_1 : decode cX5_look 1 = .ok (.getfield 71, 3) := dk_180 0 71 (dk_at dksX5_look_0 1 rfl rfl)
theorem dX5_look_4 : decode cX5_look 4 = .ok (.iload_n 1, 1) := dk_27 (dk_at dksX5_look_0 4 rfl rfl)
theorem dX5_look_5 : decode cX5_look 5 = .ok (.invokevirtual 170, 3) := dk_182 0 170 (dk_at dksX5_look_0 5 rfl rfl)
theorem dX5_look_8 : decode cX5_look 8 = .ok (.sipush 128, 3) := dk_17 0 128 (dk_at dksX5_look_0 8 rfl rfl)
theorem dX5_look_11 : decode cX5_look 11 = .ok (.imul, 1) := dk_104 (dk_at dksX5_look_0 11 rfl rfl)
theorem dX5_look_12 : decode cX5_look 12 = .ok (.istore 4, 2) := dk_54 4 (dk_at dksX5_look_0 12 rfl rfl)
theorem dX5_look_14 : decode cX5_look 14 = .ok (.iload_n 2, 1) := dk_28 (dk_at dksX5_look_0 14 rfl rfl)
theorem dX5_look_15 : decode cX5_look 15 = .ok (.bipush 8, 2) := dk_16 8 (dk_at dksX5_look_0 15 rfl rfl)
theorem dX5_look_17 : decode cX5_look 17 = .ok (.iadd, 1) := dk_96 (dk_at dksX5_look_0 17 rfl rfl)
theorem dX5_look_18 : decode cX5_look 18 = .ok (.iload 4, 2) := dk_21 4 (dk_at dksX5_look_0 18 rfl rfl)
theorem dX5_look_20 : decode cX5_look 20 = .ok (.if_icmp .le 5, 3) := dk_164 0 5 (dk_at dksX5_look_0 20 rfl rfl)
theorem dX5_look_23 : decode cX5_look 23 = .ok (.iconst (-1), 1) := dk_2 (dk_at dksX5_look_0 23 rfl rfl)
theorem dX5_look_24 : decode cX5_look 24 = .ok (.ireturn, 1) := dk_172 (dk_at dksX5_look_1 0 rfl rfl)
theorem dX5_look_25 : decode cX5_look 25 = .ok (.aload_n 0, 1) := dk_42 (dk_at dksX5_look_1 1 rfl rfl)
theorem dX5_look_26 : decode cX5_look 26 = .ok (.iload_n 1, 1) := dk_27 (dk_at dksX5_look_1 2 rfl rfl)
theorem dX5_look_27 : decode cX5_look 27 = .ok (.iload_n 2, 1) := dk_28 (dk_at dksX5_look_1 3 rfl rfl)
theorem dX5_look_28 : decode cX5_look 28 = .ok (.bipush 8, 2) := dk_16 8 (dk_at dksX5_look_1 4 rfl rfl)
theorem dX5_look_30 : decode cX5_look 30 = .ok (.aload_n 3, 1) := dk_45 (dk_at dksX5_look_1 6 rfl rfl)
theorem dX5_look_31 : decode cX5_look 31 = .ok (.invokevirtual 173, 3) := dk_182 0 173 (dk_at dksX5_look_1 7 rfl rfl)
theorem dX5_look_34 : decode cX5_look 34 = .ok (.aload_n 3, 1) := dk_45 (dk_at dksX5_look_1 10 rfl rfl)
theorem dX5_look_35 : decode cX5_look 35 = .ok (.invokevirtual 176, 3) := dk_182 0 176 (dk_at dksX5_look_1 11 rfl rfl)
theorem dX5_look_38 : decode cX5_look 38 = .ok (.istore 5, 2) := dk_54 5 (dk_at dksX5_look_1 14 rfl rfl)
theorem dX5_look_40 : decode cX5_look 40 = .ok (.iload 5, 2) := dk_21 5 (dk_at dksX5_look_1 16 rfl rfl)
theorem dX5_look_42 : decode cX5_look 42 = .ok (.ifCond .ne 5, 3) := dk_154 0 5 (dk_at dksX5_look_1 18 rfl rfl)
theorem dX5_look_45 : decode cX5_look 45 = .ok (.iconst 0, 1) := dk_3 (dk_at dksX5_look_1 21 rfl rfl)
theorem dX5_look_46 : decode cX5_look 46 = .ok (.ireturn, 1) := dk_172 (dk_at dksX5_look_1 22 rfl rfl)
theorem dX5_look_47 : decode cX5_look 47 = .ok (.iload 5, 2) := dk_21 5 (dk_at dksX5_look_2 0 rfl rfl)
theorem dX5_look_49 : decode cX5_look 49 = .ok (.bipush 24, 2) := dk_16 24 (dk_at dksX5_look_2 2 rfl rfl)
theorem dX5_look_51 : decode cX5_look 51 = .ok (.if_icmp .lt 20, 3) := dk_161 0 20 (dk_at dksX5_look_2 4 rfl rfl)
theorem dX5_look_54 : decode cX5_look 54 = .ok (.iload 5, 2) := dk_21 5 (dk_at dksX5_look_2 7 rfl rfl)
theorem dX5_look_56 : decode cX5_look 56 = .ok (.sipush 320, 3) := dk_17 1 64 (dk_at dksX5_look_2 9 rfl rfl)
theorem dX5_look_59 : decode cX5_look 59 = .ok (.if_icmp .gt 12, 3) := dk_163 0 12 (dk_at dksX5_look_2 12 rfl rfl)
theorem dX5_look_62 : decode cX5_look 62 = .ok (.iload_n 2, 1) := dk_28 (dk_at dksX5_look_2 15 rfl rfl)
theorem dX5_look_63 : decode cX5_look 63 = .ok (.iload 5, 2) := dk_21 5 (dk_at dksX5_look_2 16 rfl rfl)
theorem dX5_look_65 : decode cX5_look 65 = .ok (.iadd, 1) := dk_96 (dk_at dksX5_look_2 18 rfl rfl)
theorem dX5_look_66 : decode cX5_look 66 = .ok (.iload 4, 2) := dk_21 4 (dk_at dksX5_look_2 19 rfl rfl)
theorem dX5_look_68 : decode cX5_look 68 = .ok (.if_icmp .le 5, 3) := dk_164 0 5 (dk_at dksX5_look_2 21 rfl rfl)
theorem dX5_look_71 : decode cX5_look 71 = .ok (.iconst (-1), 1) := dk_2 (dk_at dksX5_look_3 0 rfl rfl)
theorem dX5_look_72 : decode cX5_look 72 = .ok (.ireturn, 1) := dk_172 (dk_at dksX5_look_3 1 rfl rfl)
theorem dX5_look_73 : decode cX5_look 73 = .ok (.aload_n 0, 1) := dk_42 (dk_at dksX5_look_3 2 rfl rfl)
theorem dX5_look_74 : decode cX5_look 74 = .ok (.iload_n 1, 1) := dk_27 (dk_at dksX5_look_3 3 rfl rfl)
theorem dX5_look_75 : decode cX5_look 75 = .ok (.iload_n 2, 1) := dk_28 (dk_at dksX5_look_3 4 rfl rfl)
theorem dX5_look_76 : decode cX5_look 76 = .ok (.iload 5, 2) := dk_21 5 (dk_at dksX5_look_3 5 rfl rfl)
theorem dX5_look_78 : decode cX5_look 78 = .ok (.aload_n 3, 1) := dk_45 (dk_at dksX5_look_3 7 rfl rfl)
theorem dX5_look_79 : decode cX5_look 79 = .ok (.invokevirtual 173, 3) := dk_182 0 173 (dk_at dksX5_look_3 8 rfl rfl)
theorem dX5_look_82 : decode cX5_look 82 = .ok (.aload_n 3, 1) := dk_45 (dk_at dksX5_look_3 11 rfl rfl)
theorem dX5_look_83 : decode cX5_look 83 = .ok (.sipush 320, 3) := dk_17 1 64 (dk_at dksX5_look_3 12 rfl rfl)
theorem dX5_look_86 : decode cX5_look 86 = .ok (.invokevirtual 180, 3) := dk_182 0 180 (dk_at dksX5_look_3 15 rfl rfl)
theorem dX5_look_89 : decode cX5_look 89 = .ok (.ifCond .eq 8, 3) := dk_153 0 8 (dk_at dksX5_look_3 18 rfl rfl)
theorem dX5_look_92 : decode cX5_look 92 = .ok (.iload 5, 2) := dk_21 5 (dk_at dksX5_look_3 21 rfl rfl)
theorem dX5_look_94 : decode cX5_look 94 = .ok (.goto 4, 3) := dk_167 0 4 (dk_at dksX5_look_4 0 rfl rfl)
theorem dX5_look_97 : decode cX5_look 97 = .ok (.iconst (-1), 1) := dk_2 (dk_at dksX5_look_4 3 rfl rfl)
theorem dX5_look_98 : decode cX5_look 98 = .ok (.ireturn, 1) := dk_172 (dk_at dksX5_look_4 4 rfl rfl)
abbrev cX5_behindPage : ByteArray := prog_9_method_8_code
def yX5_behindPage : MethodName := ⟨RX5, "behindPage", "(I)I"⟩
def dkwX5_behindPage_0 : List UInt8 := [26, 26, 17, 0, 128, 112, 100, 17, 0, 128, 96, 172]
abbrev dktX5_behindPage_0 : List UInt8 := dkwX5_behindPage_0 ++ []
theorem dksX5_behindPage_0 : cX5_behindPage.data.toList.drop 0 = dktX5_behindPage_0 := by decide +kernel
theorem dX5_behindPage_0 : decode cX5_behindPage 0 = .ok (.iload_n 0, 1) := dk_26 (dk_at dksX5_behindPage_0 0 rfl rfl)
theorem dX5_behindPage_1 : decode cX5_behindPage 1 = .ok (.iload_n 0, 1) := dk_26 (dk_at dksX5_behindPage_0 1 rfl rfl)
theorem dX5_behindPage_2 : decode cX5_behindPage 2 = .ok (.sipush 128, 3) := dk_17 0 128 (dk_at dksX5_behindPage_0 2 rfl rfl)
theorem dX5_behindPage_5 : decode cX5_behindPage 5 = .ok (.irem, 1) := dk_112 (dk_at dksX5_behindPage_0 5 rfl rfl)
theorem dX5_behindPage_6 : decode cX5_behindPage 6 = .ok (.isub, 1) := dk_100 (dk_at dksX5_behindPage_0 6 rfl rfl)
theorem dX5_behindPage_7 : decode cX5_behindPage 7 = .ok (.sipush 128, 3) := dk_17 0 128 (dk_at dksX5_behindPage_0 7 rfl rfl)
theorem dX5_behindPage_10 : decode cX5_behindPage 10 = .ok (.iadd, 1) := dk_96 (dk_at dksX5_behindPage_0 10 rfl rfl)
theorem dX5_behindPage_11 : decode cX5_behindPage 11 = .ok (.ireturn, 1) := dk_172 (dk_at dksX5_behindPage_0 11 rfl rfl)
abbrev cX5_isLeaf : ByteArray := prog_9_method_31_code
def yX5_isLeaf : MethodName := ⟨RX5, "isLeaf", "(I)Z"⟩
def dkwX5_isLeaf_1 : List UInt8 := [167, 0, 4, 3, 172]
abbrev dktX5_isLeaf_1 : List UInt8 := dkwX5_isLeaf_1 ++ []
def dkwX5_isLeaf_0 : List UInt8 := [26, 4, 159, 0, 19, 26, 5, 159, 0, 14, 26, 6, 159, 0, 9, 26, 16, 9, 160, 0, 7, 4]
abbrev dktX5_isLeaf_0 : List UInt8 := dkwX5_isLeaf_0 ++ dktX5_isLeaf_1
theorem dksX5_isLeaf_0 : cX5_isLeaf.data.toList.drop 0 = dktX5_isLeaf_0 := by decide +kernel
theorem dksX5_isLeaf_1 : cX5_isLeaf.data.toList.drop 22 = dktX5_isLeaf_1 := dk_seg dksX5_isLeaf_0 22 rfl rfl
theorem dX5_isLeaf_0 : decode cX5_isLeaf 0 = .ok (.iload_n 0, 1) := dk_26 (dk_at dksX5_isLeaf_0 0 rfl rfl)
theorem dX5_isLeaf_1 : decode cX5_isLeaf 1 = .ok (.iconst 1, 1) := dk_4 (dk_at dksX5_isLeaf_0 1 rfl rfl)
theorem dX5_isLeaf_2 : decode cX5_isLeaf 2 = .ok (.if_icmp .eq 19, 3) := dk_159 0 19 (dk_at dksX5_isLeaf_0 2 rfl rfl)
theorem dX5_isLeaf_5 : decode cX5_isLeaf 5 = .ok (.iload_n 0, 1) := dk_26 (dk_at dksX5_isLeaf_0 5 rfl rfl)
theorem dX5_isLeaf_6 : decode cX5_isLeaf 6 = .ok (.iconst 2, 1) := dk_5 (dk_at dksX5_isLeaf_0 6 rfl rfl)
theorem dX5_isLeaf_7 : decode cX5_isLeaf 7 = .ok (.if_icmp .eq 14, 3) := dk_159 0 14 (dk_at dksX5_isLeaf_0 7 rfl rfl)
theorem dX5_isLeaf_10 : decode cX5_isLeaf 10 = .ok (.iload_n 0, 1) := dk_26 (dk_at dksX5_isLeaf_0 10 rfl rfl)
theorem dX5_isLeaf_11 : decode cX5_isLeaf 11 = .ok (.iconst 3, 1) := dk_6 (dk_at dksX5_isLeaf_0 11 rfl rfl)
theorem dX5_isLeaf_12 : decode cX5_isLeaf 12 = .ok (.if_icmp .eq 9, 3) := dk_159 0 9 (dk_at dksX5_isLeaf_0 12 rfl rfl)
theorem dX5_isLeaf_15 : decode cX5_isLeaf 15 = .ok (.iload_n 0, 1) := dk_26 (dk_at dksX5_isLeaf_0 15 rfl rfl)
theorem dX5_isLeaf_16 : decode cX5_isLeaf 16 = .ok (.bipush 9, 2) := dk_16 9 (dk_at dksX5_isLeaf_0 16 rfl rfl)
theorem dX5_isLeaf_18 : decode cX5_isLeaf 18 = .ok (.if_icmp .ne 7, 3) := dk_160 0 7 (dk_at dksX5_isLeaf_0 18 rfl rfl)
theorem dX5_isLeaf_21 : decode cX5_isLeaf 21 = .ok (.iconst 1, 1) := dk_4 (dk_at dksX5_isLeaf_0 21 rfl rfl)
theorem dX5_isLeaf_22 : decode cX5_isLeaf 22 = .ok (.goto 4, 3) := dk_167 0 4 (dk_at dksX5_isLeaf_1 0 rfl rfl)
theorem dX5_isLeaf_25 : decode cX5_isLeaf 25 = .ok (.iconst 0, 1) := dk_3 (dk_at dksX5_isLeaf_1 3 rfl rfl)
theorem dX5_isLeaf_26 : decode cX5_isLeaf 26 = .ok (.ireturn, 1) := dk_172 (dk_at dksX5_isLeaf_1 4 rfl rfl)
abbrev cX5_highOf : ByteArray := prog_9_method_32_code
def yX5_highOf : MethodName := ⟨RX5, "highOf", "(LNandHouse$Row;)J"⟩
def dkwX5_highOf_1 : List UInt8 := [4, 167, 0, 13, 27, 5, 160, 0, 7, 5, 167, 0, 4, 6, 184, 1, 204, 173]
abbrev dktX5_highOf_1 : List UInt8 := dkwX5_highOf_1 ++ []
def dkwX5_highOf_0 : List UInt8 := [42, 182, 1, 168, 60, 42, 3, 182, 1, 171, 27, 4, 160, 0, 7, 3, 167, 0, 22, 27, 6, 160, 0, 7]
abbrev dktX5_highOf_0 : List UInt8 := dkwX5_highOf_0 ++ dktX5_highOf_1
theorem dksX5_highOf_0 : cX5_highOf.data.toList.drop 0 = dktX5_highOf_0 := by decide +kernel
theorem dksX5_highOf_1 : cX5_highOf.data.toList.drop 24 = dktX5_highOf_1 := dk_seg dksX5_highOf_0 24 rfl rfl
theorem dX5_highOf_0 : decode cX5_highOf 0 = .ok (.aload_n 0, 1) := dk_42 (dk_at dksX5_highOf_0 0 rfl rfl)
theorem dX5_highOf_1 : decode cX5_highOf 1 = .ok (.invokevirtual 424, 3) := dk_182 1 168 (dk_at dksX5_highOf_0 1 rfl rfl)
theorem dX5_highOf_4 : decode cX5_highOf 4 = .ok (.istore_n 1, 1) := dk_60 (dk_at dksX5_highOf_0 4 rfl rfl)
theorem dX5_highOf_5 : decode cX5_highOf 5 = .ok (.aload_n 0, 1) := dk_42 (dk_at dksX5_highOf_0 5 rfl rfl)
theorem dX5_highOf_6 : decode cX5_highOf 6 = .ok (.iconst 0, 1) := dk_3 (dk_at dksX5_highOf_0 6 rfl rfl)
theorem dX5_highOf_7 : decode cX5_highOf 7 = .ok (.invokevirtual 427, 3) := dk_182 1 171 (dk_at dksX5_highOf_0 7 rfl rfl)
theorem dX5_highOf_10 : decode cX5_highOf 10 = .ok (.iload_n 1, 1) := dk_27 (dk_at dksX5_highOf_0 10 rfl rfl)
theorem dX5_highOf_11 : decode cX5_highOf 11 = .ok (.iconst 1, 1) := dk_4 (dk_at dksX5_highOf_0 11 rfl rfl)
theorem dX5_highOf_12 : decode cX5_highOf 12 = .ok (.if_icmp .ne 7, 3) := dk_160 0 7 (dk_at dksX5_highOf_0 12 rfl rfl)
theorem dX5_highOf_15 : decode cX5_highOf 15 = .ok (.iconst 0, 1) := dk_3 (dk_at dksX5_highOf_0 15 rfl rfl)
theorem dX5_highOf_16 : decode cX5_highOf 16 = .ok (.goto 22, 3) := dk_167 0 22 (dk_at dksX5_highOf_0 16 rfl rfl)
theorem dX5_highOf_19 : decode cX5_highOf 19 = .ok (.iload_n 1, 1) := dk_27 (dk_at dksX5_highOf_0 19 rfl rfl)
theorem dX5_highOf_20 : decode cX5_highOf 20 = .ok (.iconst 3, 1) := dk_6 (dk_at dksX5_highOf_0 20 rfl rfl)
theorem dX5_highOf_21 : decode cX5_highOf 21 = .ok (.if_icmp .ne 7, 3) := dk_160 0 7 (dk_at dksX5_highOf_0 21 rfl rfl)
theorem dX5_highOf_24 : decode cX5_highOf 24 = .ok (.iconst 1, 1) := dk_4 (dk_at dksX5_highOf_1 0 rfl rfl)
theorem dX5_highOf_25 : decode cX5_highOf 25 = .ok (.goto 13, 3) := dk_167 0 13 (dk_at dksX5_highOf_1 1 rfl rfl)
theorem dX5_highOf_28 : decode cX5_highOf 28 = .ok (.iload_n 1, 1) := dk_27 (dk_at dksX5_highOf_1 4 rfl rfl)
theorem dX5_highOf_29 : decode cX5_highOf 29 = .ok (.iconst 2, 1) := dk_5 (dk_at dksX5_highOf_1 5 rfl rfl)
theorem dX5_highOf_30 : decode cX5_highOf 30 = .ok (.if_icmp .ne 7, 3) := dk_160 0 7 (dk_at dksX5_highOf_1 6 rfl rfl)
theorem dX5_highOf_33 : decode cX5_highOf 33 = .ok (.iconst 2, 1) := dk_5 (dk_at dksX5_highOf_1 9 rfl rfl)
theorem dX5_highOf_34 : decode cX5_highOf 34 = .ok (.goto 4, 3) := dk_167 0 4 (dk_at dksX5_highOf_1 10 rfl rfl)
theorem dX5_highOf_37 : decode cX5_highOf 37 = .ok (.iconst 3, 1) := dk_6 (dk_at dksX5_highOf_1 13 rfl rfl)
theorem dX5_highOf_38 : decode cX5_highOf 38 = .ok (.invokestatic 460, 3) := dk_184 1 204 (dk_at dksX5_highOf_1 14 rfl rfl)
theorem dX5_highOf_41 : decode cX5_highOf 41 = .ok (.lreturn, 1) := dk_173 (dk_at dksX5_highOf_1 17 rfl rfl)
abbrev cX5_lowOf : ByteArray := prog_9_method_33_code
def yX5_lowOf : MethodName := ⟨RX5, "lowOf", "(LNandHouse$Row;)J"⟩
def dkwX5_lowOf_2 : List UInt8 := [16, 16, 182, 1, 171, 133, 97, 167, 0, 12, 42, 16, 8, 182, 1, 174, 184, 1, 213, 173]
abbrev dktX5_lowOf_2 : List UInt8 := dkwX5_lowOf_2 ++ []
def dkwX5_lowOf_1 : List UInt8 := [19, 1, 208, 126, 133, 167, 0, 37, 27, 5, 160, 0, 23, 42, 16, 8, 182, 1, 174, 184, 1, 209, 42]
abbrev dktX5_lowOf_1 : List UInt8 := dkwX5_lowOf_1 ++ dktX5_lowOf_2
def dkwX5_lowOf_0 : List UInt8 := [42, 182, 1, 168, 60, 27, 4, 160, 0, 7, 9, 167, 0, 55, 27, 6, 160, 0, 16, 42, 7, 182, 1, 171]
abbrev dktX5_lowOf_0 : List UInt8 := dkwX5_lowOf_0 ++ dktX5_lowOf_1
theorem dksX5_lowOf_0 : cX5_lowOf.data.toList.drop 0 = dktX5_lowOf_0 := by decide +kernel
theorem dksX5_lowOf_1 : cX5_lowOf.data.toList.drop 24 = dktX5_lowOf_1 := dk_seg dksX5_lowOf_0 24 rfl rfl
theorem dksX5_lowOf_2 : cX5_lowOf.data.toList.drop 47 = dktX5_lowOf_2 := dk_seg dksX5_lowOf_1 23 rfl rfl
theorem dX5_lowOf_0 : decode cX5_lowOf 0 = .ok (.aload_n 0, 1) := dk_42 (dk_at dksX5_lowOf_0 0 rfl rfl)
theorem dX5_lowOf_1 : decode cX5_lowOf 1 = .ok (.invokevirtual 424, 3) := dk_182 1 168 (dk_at dksX5_lowOf_0 1 rfl rfl)
theorem dX5_lowOf_4 : decode cX5_lowOf 4 = .ok (.istore_n 1, 1) := dk_60 (dk_at dksX5_lowOf_0 4 rfl rfl)
theorem dX5_lowOf_5 : decode cX5_lowOf 5 = .ok (.iload_n 1, 1) := dk_27 (dk_at dksX5_lowOf_0 5 rfl rfl)
theorem dX5_lowOf_6 : decode cX5_lowOf 6 = .ok (.iconst 1, 1) := dk_4 (dk_at dksX5_lowOf_0 6 rfl rfl)
theorem dX5_lowOf_7 : decode cX5_lowOf 7 = .ok (.if_icmp .ne 7, 3) := dk_160 0 7 (dk_at dksX5_lowOf_0 7 rfl rfl)
theorem dX5_lowOf_10 : decode cX5_lowOf 10 = .ok (.lconst 0, 1) := dk_9 (dk_at dksX5_lowOf_0 10 rfl rfl)
theorem dX5_lowOf_11 : decode cX5_lowOf 11 = .ok (.goto 55, 3) := dk_167 0 55 (dk_at dksX5_lowOf_0 11 rfl rfl)
theorem dX5_lowOf_14 : decode cX5_lowOf 14 = .ok (.iload_n 1, 1) := dk_27 (dk_at dksX5_lowOf_0 14 rfl rfl)
theorem dX5_lowOf_15 : decode cX5_lowOf 15 = .ok (.iconst 3, 1) := dk_6 (dk_at dksX5_lowOf_0 15 rfl rfl)
theorem dX5_lowOf_16 : decode cX5_lowOf 16 = .ok (.if_icmp .ne 16, 3) := dk_160 0 16 (dk_at dksX5_lowOf_0 16 rfl rfl)
theorem dX5_lowOf_19 : decode cX5_lowOf 19 = .ok (.aload_n 0, 1) := dk_42 (dk_at dksX5_lowOf_0 19 rfl rfl)
theorem dX5_lowOf_20 : decode cX5_lowOf 20 = .ok (.iconst 4, 1) := dk_7 (dk_at dksX5_lowOf_0 20 rfl rfl)
theorem dX5_lowOf_21 : decode cX5_lowOf 21 = .ok (.invokevirtual 427, 3) := dk_182 1 171 (dk_at dksX5_lowOf_0 21 rfl rfl)
theorem dX5_lowOf_24 : decode cX5_lowOf 24 = .ok (.ldc_w 464, 3) := dk_19 1 208 (dk_at dksX5_lowOf_1 0 rfl rfl)
theorem dX5_lowOf_27 : decode cX5_lowOf 27 = .ok (.iand, 1) := dk_126 (dk_at dksX5_lowOf_1 3 rfl rfl)
theorem dX5_lowOf_28 : decode cX5_lowOf 28 = .ok (.i2l, 1) := dk_133 (dk_at dksX5_lowOf_1 4 rfl rfl)
theorem dX5_lowOf_29 : decode cX5_lowOf 29 = .ok (.goto 37, 3) := dk_167 0 37 (dk_at dksX5_lowOf_1 5 rfl rfl)
theorem dX5_lowOf_32 : decode cX5_lowOf 32 = .ok (.iload_n 1, 1) := dk_27 (dk_at dksX5_lowOf_1 8 rfl rfl)
theorem dX5_lowOf_33 : decode cX5_lowOf 33 = .ok (.iconst 2, 1) := dk_5 (dk_at dksX5_lowOf_1 9 rfl rfl)
theorem dX5_lowOf_34 : decode cX5_lowOf 34 = .ok (.if_icmp .ne 23, 3) := dk_160 0 23 (dk_at dksX5_lowOf_1 10 rfl rfl)
theorem dX5_lowOf_37 : decode cX5_lowOf 37 = .ok (.aload_n 0, 1) := dk_42 (dk_at dksX5_lowOf_1 13 rfl rfl)
theorem dX5_lowOf_38 : decode cX5_lowOf 38 = .ok (.bipush 8, 2) := dk_16 8 (dk_at dksX5_lowOf_1 14 rfl rfl)
theorem dX5_lowOf_40 : decode cX5_lowOf 40 = .ok (.invokevirtual 430, 3) := dk_182 1 174 (dk_at dksX5_lowOf_1 16 rfl rfl)
theorem dX5_lowOf_43 : decode cX5_lowOf 43 = .ok (.invokestatic 465, 3) := dk_184 1 209 (dk_at dksX5_lowOf_1 19 rfl rfl)
theorem dX5_lowOf_46 : decode cX5_lowOf 46 = .ok (.aload_n 0, 1) := dk_42 (dk_at dksX5_lowOf_1 22 rfl rfl)
theorem dX5_lowOf_47 : decode cX5_lowOf 47 = .ok (.bipush 16, 2) := dk_16 16 (dk_at dksX5_lowOf_2 0 rfl rfl)
theorem dX5_lowOf_49 : decode cX5_lowOf 49 = .ok (.invokevirtual 427, 3) := dk_182 1 171 (dk_at dksX5_lowOf_2 2 rfl rfl)
theorem dX5_lowOf_52 : decode cX5_lowOf 52 = .ok (.i2l, 1) := dk_133 (dk_at dksX5_lowOf_2 5 rfl rfl)
theorem dX5_lowOf_53 : decode cX5_lowOf 53 = .ok (.ladd, 1) := dk_97 (dk_at dksX5_lowOf_2 6 rfl rfl)
theorem dX5_lowOf_54 : decode cX5_lowOf 54 = .ok (.goto 12, 3) := dk_167 0 12 (dk_at dksX5_lowOf_2 7 rfl rfl)
theorem dX5_lowOf_57 : decode cX5_lowOf 57 = .ok (.aload_n 0, 1) := dk_42 (dk_at dksX5_lowOf_2 10 rfl rfl)
theorem dX5_lowOf_58 : decode cX5_lowOf 58 = .ok (.bipush 8, 2) := dk_16 8 (dk_at dksX5_lowOf_2 11 rfl rfl)
theorem dX5_lowOf_60 : decode cX5_lowOf 60 = .ok (.invokevirtual 430, 3) := dk_182 1 174 (dk_at dksX5_lowOf_2 13 rfl rfl)
theorem dX5_lowOf_63 : decode cX5_lowOf 63 = .ok (.invokestatic 469, 3) := dk_184 1 213 (dk_at dksX5_lowOf_2 16 rfl rfl)
theorem dX5_lowOf_66 : decode cX5_lowOf 66 = .ok (.lreturn, 1) := dk_173 (dk_at dksX5_lowOf_2 19 rfl rfl)
abbrev cX5_moveNode : ByteArray := prog_9_method_30_code
def yX5_moveNode : MethodName := ⟨RX5, "moveNode", "(I)V"⟩
def dkwX5_moveNode_2 : List UInt8 := [180, 0, 121, 180, 0, 131, 28, 27, 182, 1, 201, 177]
abbrev dktX5_moveNode_2 : List UInt8 := dkwX5_moveNode_2 ++ []
def dkwX5_moveNode_1 : List UInt8 := [182, 0, 199, 61, 42, 180, 0, 108, 42, 180, 0, 16, 184, 1, 185, 42, 180, 0, 16, 184, 1, 189, 42]
abbrev dktX5_moveNode_1 : List UInt8 := dkwX5_moveNode_1 ++ dktX5_moveNode_2
def dkwX5_moveNode_0 : List UInt8 := [42, 42, 180, 0, 121, 27, 182, 1, 103, 42, 180, 0, 121, 42, 180, 0, 16, 180, 0, 158, 3, 27]
abbrev dktX5_moveNode_0 : List UInt8 := dkwX5_moveNode_0 ++ dktX5_moveNode_1
theorem dksX5_moveNode_0 : cX5_moveNode.data.toList.drop 0 = dktX5_moveNode_0 := by decide +kernel
theorem dksX5_moveNode_1 : cX5_moveNode.data.toList.drop 22 = dktX5_moveNode_1 := dk_seg dksX5_moveNode_0 22 rfl rfl
theorem dksX5_moveNode_2 : cX5_moveNode.data.toList.drop 45 = dktX5_moveNode_2 := dk_seg dksX5_moveNode_1 23 rfl rfl
theorem dX5_moveNode_0 : decode cX5_moveNode 0 = .ok (.aload_n 0, 1) := dk_42 (dk_at dksX5_moveNode_0 0 rfl rfl)
theorem dX5_moveNode_1 : decode cX5_moveNode 1 = .ok (.aload_n 0, 1) := dk_42 (dk_at dksX5_moveNode_0 1 rfl rfl)
theorem dX5_moveNode_2 : decode cX5_moveNode 2 = .ok (.getfield 121, 3) := dk_180 0 121 (dk_at dksX5_moveNode_0 2 rfl rfl)
theorem dX5_moveNode_5 : decode cX5_moveNode 5 = .ok (.iload_n 1, 1) := dk_27 (dk_at dksX5_moveNode_0 5 rfl rfl)
theorem dX5_moveNode_6 : decode cX5_moveNode 6 = .ok (.invokevirtual 359, 3) := dk_182 1 103 (dk_at dksX5_moveNode_0 6 rfl rfl)
theorem dX5_moveNode_9 : decode cX5_moveNode 9 = .ok (.aload_n 0, 1) := dk_42 (dk_at dksX5_moveNode_0 9 rfl rfl)
theorem dX5_moveNode_10 : decode cX5_moveNode 10 = .ok (.getfield 121, 3) := dk_180 0 121 (dk_at dksX5_moveNode_0 10 rfl rfl)
theorem dX5_moveNode_13 : decode cX5_moveNode 13 = .ok (.aload_n 0, 1) := dk_42 (dk_at dksX5_moveNode_0 13 rfl rfl)
theorem dX5_moveNode_14 : decode cX5_moveNode 14 = .ok (.getfield 16, 3) := dk_180 0 16 (dk_at dksX5_moveNode_0 14 rfl rfl)
theorem dX5_moveNode_17 : decode cX5_moveNode 17 = .ok (.getfield 158, 3) := dk_180 0 158 (dk_at dksX5_moveNode_0 17 rfl rfl)
theorem dX5_moveNode_20 : decode cX5_moveNode 20 = .ok (.iconst 0, 1) := dk_3 (dk_at dksX5_moveNode_0 20 rfl rfl)
theorem dX5_moveNode_21 : decode cX5_moveNode 21 = .ok (.iload_n 1, 1) := dk_27 (dk_at dksX5_moveNode_0 21 rfl rfl)
theorem dX5_moveNode_22 : decode cX5_moveNode 22 = .ok (.invokevirtual 199, 3) := dk_182 0 199 (dk_at dksX5_moveNode_1 0 rfl rfl)
theorem dX5_moveNode_25 : decode cX5_moveNode 25 = .ok (.istore_n 2, 1) := dk_61 (dk_at dksX5_moveNode_1 3 rfl rfl)
theorem dX5_moveNode_26 : decode cX5_moveNode 26 = .ok (.aload_n 0, 1) := dk_42 (dk_at dksX5_moveNode_1 4 rfl rfl)
theorem dX5_moveNode_27 : decode cX5_moveNode 27 = .ok (.getfield 108, 3) := dk_180 0 108 (dk_at dksX5_moveNode_1 5 rfl rfl)
theorem dX5_moveNode_30 : decode cX5_moveNode 30 = .ok (.aload_n 0, 1) := dk_42 (dk_at dksX5_moveNode_1 8 rfl rfl)
theorem dX5_moveNode_31 : decode cX5_moveNode 31 = .ok (.getfield 16, 3) := dk_180 0 16 (dk_at dksX5_moveNode_1 9 rfl rfl)
theorem dX5_moveNode_34 : decode cX5_moveNode 34 = .ok (.invokestatic 441, 3) := dk_184 1 185 (dk_at dksX5_moveNode_1 12 rfl rfl)
theorem dX5_moveNode_37 : decode cX5_moveNode 37 = .ok (.aload_n 0, 1) := dk_42 (dk_at dksX5_moveNode_1 15 rfl rfl)
theorem dX5_moveNode_38 : decode cX5_moveNode 38 = .ok (.getfield 16, 3) := dk_180 0 16 (dk_at dksX5_moveNode_1 16 rfl rfl)
theorem dX5_moveNode_41 : decode cX5_moveNode 41 = .ok (.invokestatic 445, 3) := dk_184 1 189 (dk_at dksX5_moveNode_1 19 rfl rfl)
theorem dX5_moveNode_44 : decode cX5_moveNode 44 = .ok (.aload_n 0, 1) := dk_42 (dk_at dksX5_moveNode_1 22 rfl rfl)
theorem dX5_moveNode_45 : decode cX5_moveNode 45 = .ok (.getfield 121, 3) := dk_180 0 121 (dk_at dksX5_moveNode_2 0 rfl rfl)
theorem dX5_moveNode_48 : decode cX5_moveNode 48 = .ok (.getfield 131, 3) := dk_180 0 131 (dk_at dksX5_moveNode_2 3 rfl rfl)
theorem dX5_moveNode_51 : decode cX5_moveNode 51 = .ok (.iload_n 2, 1) := dk_28 (dk_at dksX5_moveNode_2 6 rfl rfl)
theorem dX5_moveNode_52 : decode cX5_moveNode 52 = .ok (.iload_n 1, 1) := dk_27 (dk_at dksX5_moveNode_2 7 rfl rfl)
theorem dX5_moveNode_53 : decode cX5_moveNode 53 = .ok (.invokevirtual 457, 3) := dk_182 1 201 (dk_at dksX5_moveNode_2 8 rfl rfl)
theorem dX5_moveNode_56 : decode cX5_moveNode 56 = .ok (.return_, 1) := dk_177 (dk_at dksX5_moveNode_2 11 rfl rfl)
abbrev cX5_commitWhole : ByteArray := prog_9_method_24_code
def yX5_commitWhole : MethodName := ⟨RX5, "commitWhole", "()V"⟩
def dkwX5_commitWhole_1 : List UInt8 := [182, 0, 184, 177]
abbrev dktX5_commitWhole_1 : List UInt8 := dkwX5_commitWhole_1 ++ []
def dkwX5_commitWhole_0 : List UInt8 := [42, 182, 0, 184, 42, 180, 0, 108, 42, 180, 0, 108, 180, 1, 16, 182, 1, 24, 42, 182, 1, 139, 42]
abbrev dktX5_commitWhole_0 : List UInt8 := dkwX5_commitWhole_0 ++ dktX5_commitWhole_1
theorem dksX5_commitWhole_0 : cX5_commitWhole.data.toList.drop 0 = dktX5_commitWhole_0 := by decide +kernel
theorem dksX5_commitWhole_1 : cX5_commitWhole.data.toList.drop 23 = dktX5_commitWhole_1 := dk_seg dksX5_commitWhole_0 23 rfl rfl
theorem dX5_commitWhole_0 : decode cX5_commitWhole 0 = .ok (.aload_n 0, 1) := dk_42 (dk_at dksX5_commitWhole_0 0 rfl rfl)
theorem dX5_commitWhole_1 : decode cX5_commitWhole 1 = .ok (.invokevirtual 184, 3) := dk_182 0 184 (dk_at dksX5_commitWhole_0 1 rfl rfl)
theorem dX5_commitWhole_4 : decode cX5_commitWhole 4 = .ok (.aload_n 0, 1) := dk_42 (dk_at dksX5_commitWhole_0 4 rfl rfl)
theorem dX5_commitWhole_5 : decode cX5_commitWhole 5 = .ok (.getfield 108, 3) := dk_180 0 108 (dk_at dksX5_commitWhole_0 5 rfl rfl)
theorem dX5_commitWhole_8 : decode cX5_commitWhole 8 = .ok (.aload_n 0, 1) := dk_42 (dk_at dksX5_commitWhole_0 8 rfl rfl)
theorem dX5_commitWhole_9 : decode cX5_commitWhole 9 = .ok (.getfield 108, 3) := dk_180 0 108 (dk_at dksX5_commitWhole_0 9 rfl rfl)
theorem dX5_commitWhole_12 : decode cX5_commitWhole 12 = .ok (.getfield 272, 3) := dk_180 1 16 (dk_at dksX5_commitWhole_0 12 rfl rfl)
theorem dX5_commitWhole_15 : decode cX5_commitWhole 15 = .ok (.invokevirtual 280, 3) := dk_182 1 24 (dk_at dksX5_commitWhole_0 15 rfl rfl)
theorem dX5_commitWhole_18 : decode cX5_commitWhole 18 = .ok (.aload_n 0, 1) := dk_42 (dk_at dksX5_commitWhole_0 18 rfl rfl)
theorem dX5_commitWhole_19 : decode cX5_commitWhole 19 = .ok (.invokevirtual 395, 3) := dk_182 1 139 (dk_at dksX5_commitWhole_0 19 rfl rfl)
theorem dX5_commitWhole_22 : decode cX5_commitWhole 22 = .ok (.aload_n 0, 1) := dk_42 (dk_at dksX5_commitWhole_0 22 rfl rfl)
theorem dX5_commitWhole_23 : decode cX5_commitWhole 23 = .ok (.invokevirtual 184, 3) := dk_182 0 184 (dk_at dksX5_commitWhole_1 0 rfl rfl)
theorem dX5_commitWhole_26 : decode cX5_commitWhole 26 = .ok (.return_, 1) := dk_177 (dk_at dksX5_commitWhole_1 3 rfl rfl)
abbrev cX5_number : ByteArray := prog_9_method_10_code
def yX5_number : MethodName := ⟨RX5, "number", "(LNandHouse$Row;)V"⟩
def dkwX5_number_1 : List UInt8 := [182, 0, 212, 43, 182, 0, 215, 182, 0, 219, 29, 28, 96, 62, 167, 255, 222, 177]
abbrev dktX5_number_1 : List UInt8 := dkwX5_number_1 ++ []
def dkwX5_number_0 : List UInt8 := [3, 61, 3, 62, 29, 43, 180, 0, 167, 162, 0, 32, 43, 29, 181, 0, 209, 43, 182, 0, 176, 61, 43, 42]
abbrev dktX5_number_0 : List UInt8 := dkwX5_number_0 ++ dktX5_number_1
theorem dksX5_number_0 : cX5_number.data.toList.drop 0 = dktX5_number_0 := by decide +kernel
theorem dksX5_number_1 : cX5_number.data.toList.drop 24 = dktX5_number_1 := dk_seg dksX5_number_0 24 rfl rfl
theorem dX5_number_0 : decode cX5_number 0 = .ok (.iconst 0, 1) := dk_3 (dk_at dksX5_number_0 0 rfl rfl)
theorem dX5_number_1 : decode cX5_number 1 = .ok (.istore_n 2, 1) := dk_61 (dk_at dksX5_number_0 1 rfl rfl)
theorem dX5_number_2 : decode cX5_number 2 = .ok (.iconst 0, 1) := dk_3 (dk_at dksX5_number_0 2 rfl rfl)
theorem dX5_number_3 : decode cX5_number 3 = .ok (.istore_n 3, 1) := dk_62 (dk_at dksX5_number_0 3 rfl rfl)
theorem dX5_number_4 : decode cX5_number 4 = .ok (.iload_n 3, 1) := dk_29 (dk_at dksX5_number_0 4 rfl rfl)
theorem dX5_number_5 : decode cX5_number 5 = .ok (.aload_n 1, 1) := dk_43 (dk_at dksX5_number_0 5 rfl rfl)
theorem dX5_number_6 : decode cX5_number 6 = .ok (.getfield 167, 3) := dk_180 0 167 (dk_at dksX5_number_0 6 rfl rfl)
theorem dX5_number_9 : decode cX5_number 9 = .ok (.if_icmp .ge 32, 3) := dk_162 0 32 (dk_at dksX5_number_0 9 rfl rfl)
theorem dX5_number_12 : decode cX5_number 12 = .ok (.aload_n 1, 1) := dk_43 (dk_at dksX5_number_0 12 rfl rfl)
theorem dX5_number_13 : decode cX5_number 13 = .ok (.iload_n 3, 1) := dk_29 (dk_at dksX5_number_0 13 rfl rfl)
theorem dX5_number_14 : decode cX5_number 14 = .ok (.putfield 209, 3) := dk_181 0 209 (dk_at dksX5_number_0 14 rfl rfl)
theorem dX5_number_17 : decode cX5_number 17 = .ok (.aload_n 1, 1) := dk_43 (dk_at dksX5_number_0 17 rfl rfl)
theorem dX5_number_18 : decode cX5_number 18 = .ok (.invokevirtual 176, 3) := dk_182 0 176 (dk_at dksX5_number_0 18 rfl rfl)
theorem dX5_number_21 : decode cX5_number 21 = .ok (.istore_n 2, 1) := dk_61 (dk_at dksX5_number_0 21 rfl rfl)
theorem dX5_number_22 : decode cX5_number 22 = .ok (.aload_n 1, 1) := dk_43 (dk_at dksX5_number_0 22 rfl rfl)
theorem dX5_number_23 : decode cX5_number 23 = .ok (.aload_n 0, 1) := dk_42 (dk_at dksX5_number_0 23 rfl rfl)
theorem dX5_number_24 : decode cX5_number 24 = .ok (.invokevirtual 212, 3) := dk_182 0 212 (dk_at dksX5_number_1 0 rfl rfl)
theorem dX5_number_27 : decode cX5_number 27 = .ok (.aload_n 1, 1) := dk_43 (dk_at dksX5_number_1 3 rfl rfl)
theorem dX5_number_28 : decode cX5_number 28 = .ok (.invokevirtual 215, 3) := dk_182 0 215 (dk_at dksX5_number_1 4 rfl rfl)
theorem dX5_number_31 : decode cX5_number 31 = .ok (.invokevirtual 219, 3) := dk_182 0 219 (dk_at dksX5_number_1 7 rfl rfl)
theorem dX5_number_34 : decode cX5_number 34 = .ok (.iload_n 3, 1) := dk_29 (dk_at dksX5_number_1 10 rfl rfl)
theorem dX5_number_35 : decode cX5_number 35 = .ok (.iload_n 2, 1) := dk_28 (dk_at dksX5_number_1 11 rfl rfl)
theorem dX5_number_36 : decode cX5_number 36 = .ok (.iadd, 1) := dk_96 (dk_at dksX5_number_1 12 rfl rfl)
theorem dX5_number_37 : decode cX5_number 37 = .ok (.istore_n 3, 1) := dk_62 (dk_at dksX5_number_1 13 rfl rfl)
theorem dX5_number_38 : decode cX5_number 38 = .ok (.goto (-34), 3) := dk_167 255 222 (dk_at dksX5_number_1 14 rfl rfl)
theorem dX5_number_41 : decode cX5_number 41 = .ok (.return_, 1) := dk_177 (dk_at dksX5_number_1 17 rfl rfl)
abbrev cX5_apply : ByteArray := prog_9_method_44_code
def yX5_apply : MethodName := ⟨RX5, "apply", "(LNandHouse$Row;II)V"⟩
def dkwX5_apply_7 : List UInt8 := [180, 0, 108, 43, 184, 1, 185, 43, 184, 1, 189, 28, 29, 43, 182, 0, 176, 182, 1, 201, 177]
abbrev dktX5_apply_7 : List UInt8 := dkwX5_apply_7 ++ []
def dkwX5_apply_6 : List UInt8 := [184, 1, 185, 43, 184, 1, 189, 182, 2, 39, 167, 0, 32, 21, 5, 184, 1, 182, 153, 0, 24, 42]
abbrev dktX5_apply_6 : List UInt8 := dkwX5_apply_6 ++ dktX5_apply_7
def dkwX5_apply_5 : List UInt8 := [153, 0, 19, 21, 5, 16, 9, 160, 0, 30, 43, 7, 182, 1, 171, 4, 160, 0, 21, 42, 180, 0, 108, 43]
abbrev dktX5_apply_5 : List UInt8 := dkwX5_apply_5 ++ dktX5_apply_6
def dkwX5_apply_4 : List UInt8 := [154, 0, 12, 42, 21, 4, 182, 2, 36, 167, 0, 80, 21, 5, 5, 160, 0, 11, 43, 7, 182, 1, 171]
abbrev dktX5_apply_4 : List UInt8 := dkwX5_apply_4 ++ dktX5_apply_5
def dkwX5_apply_3 : List UInt8 := [21, 4, 43, 7, 182, 1, 171, 182, 2, 33, 167, 0, 103, 21, 5, 4, 160, 0, 20, 43, 7, 182, 1, 171]
abbrev dktX5_apply_3 : List UInt8 := dkwX5_apply_3 ++ dktX5_apply_4
def dkwX5_apply_2 : List UInt8 := [16, 8, 182, 1, 171, 154, 0, 7, 4, 167, 0, 4, 3, 182, 2, 29, 21, 5, 7, 160, 0, 17, 42]
abbrev dktX5_apply_2 : List UInt8 := dkwX5_apply_2 ++ dktX5_apply_3
def dkwX5_apply_1 : List UInt8 := [21, 4, 4, 96, 184, 2, 27, 181, 0, 30, 42, 21, 4, 43, 7, 182, 1, 171, 5, 160, 0, 16, 43]
abbrev dktX5_apply_1 : List UInt8 := dkwX5_apply_1 ++ dktX5_apply_2
def dkwX5_apply_0 : List UInt8 := [43, 3, 182, 1, 171, 54, 4, 43, 182, 1, 168, 54, 5, 21, 5, 4, 160, 0, 47, 42, 42, 180, 0, 30]
abbrev dktX5_apply_0 : List UInt8 := dkwX5_apply_0 ++ dktX5_apply_1
theorem dksX5_apply_0 : cX5_apply.data.toList.drop 0 = dktX5_apply_0 := by decide +kernel
theorem dksX5_apply_1 : cX5_apply.data.toList.drop 24 = dktX5_apply_1 := dk_seg dksX5_apply_0 24 rfl rfl
theorem dksX5_apply_2 : cX5_apply.data.toList.drop 47 = dktX5_apply_2 := dk_seg dksX5_apply_1 23 rfl rfl
theorem dksX5_apply_3 : cX5_apply.data.toList.drop 70 = dktX5_apply_3 := dk_seg dksX5_apply_2 23 rfl rfl
theorem dksX5_apply_4 : cX5_apply.data.toList.drop 94 = dktX5_apply_4 := dk_seg dksX5_apply_3 24 rfl rfl
theorem dksX5_apply_5 : cX5_apply.data.toList.drop 117 = dktX5_apply_5 := dk_seg dksX5_apply_4 23 rfl rfl
theorem dksX5_apply_6 : cX5_apply.data.toList.drop 141 = dktX5_apply_6 := dk_seg dksX5_apply_5 24 rfl rfl
theorem dksX5_apply_7 : cX5_apply.data.toList.drop 163 = dktX5_apply_7 := dk_seg dksX5_apply_6 22 rfl rfl
theorem dX5_apply_0 : decode cX5_apply 0 = .ok (.aload_n 1, 1) := dk_43 (dk_at dksX5_apply_0 0 rfl rfl)
theorem dX5_apply_1 : decode cX5_apply 1 = .ok (.iconst 0, 1) := dk_3 (dk_at dksX5_apply_0 1 rfl rfl)
theorem dX5_apply_2 : decode cX5_apply 2 = .ok (.invokevirtual 427, 3) := dk_182 1 171 (dk_at dksX5_apply_0 2 rfl rfl)
theorem dX5_apply_5 : decode cX5_apply 5 = .ok (.istore 4, 2) := dk_54 4 (dk_at dksX5_apply_0 5 rfl rfl)
theorem dX5_apply_7 : decode cX5_apply 7 = .ok (.aload_n 1, 1) := dk_43 (dk_at dksX5_apply_0 7 rfl rfl)
theorem dX5_apply_8 : decode cX5_apply 8 = .ok (.invokevirtual 424, 3) := dk_182 1 168 (dk_at dksX5_apply_0 8 rfl rfl)
theorem dX5_apply_11 : decode cX5_apply 11 = .ok (.istore 5, 2) := dk_54 5 (dk_at dksX5_apply_0 11 rfl rfl)
theorem dX5_apply_13 : decode cX5_apply 13 = .ok (.iload 5, 2) := dk_21 5 (dk_at dksX5_apply_0 13 rfl rfl)
theorem dX5_apply_15 : decode cX5_apply 15 = .ok (.iconst 1, 1) := dk_4 (dk_at dksX5_apply_0 15 rfl rfl)
theorem dX5_apply_16 : decode cX5_apply 16 = .ok (.if_icmp .ne 47, 3) := dk_160 0 47 (dk_at dksX5_apply_0 16 rfl rfl)
theorem dX5_apply_19 : decode cX5_apply 19 = .ok (.aload_n 0, 1) := dk_42 (dk_at dksX5_apply_0 19 rfl rfl)
theorem dX5_apply_20 : decode cX5_apply 20 = .ok (.aload_n 0, 1) := dk_42 (dk_at dksX5_apply_0 20 rfl rfl)
theorem dX5_apply_21 : decode cX5_apply 21 = .ok (.getfield 30, 3) := dk_180 0 30 (dk_at dksX5_apply_0 21 rfl rfl)
theorem dX5_apply_24 : decode cX5_apply 24 = .ok (.iload 4, 2) := dk_21 4 (dk_at dksX5_apply_1 0 rfl rfl)
theorem dX5_apply_26 : decode cX5_apply 26 = .ok (.iconst 1, 1) := dk_4 (dk_at dksX5_apply_1 2 rfl rfl)
theorem dX5_apply_27 : decode cX5_apply 27 = .ok (.iadd, 1) := dk_96 (dk_at dksX5_apply_1 3 rfl rfl)
theorem dX5_apply_28 : decode cX5_apply 28 = .ok (.invokestatic 539, 3) := dk_184 2 27 (dk_at dksX5_apply_1 4 rfl rfl)
theorem dX5_apply_31 : decode cX5_apply 31 = .ok (.putfield 30, 3) := dk_181 0 30 (dk_at dksX5_apply_1 7 rfl rfl)
theorem dX5_apply_34 : decode cX5_apply 34 = .ok (.aload_n 0, 1) := dk_42 (dk_at dksX5_apply_1 10 rfl rfl)
theorem dX5_apply_35 : decode cX5_apply 35 = .ok (.iload 4, 2) := dk_21 4 (dk_at dksX5_apply_1 11 rfl rfl)
theorem dX5_apply_37 : decode cX5_apply 37 = .ok (.aload_n 1, 1) := dk_43 (dk_at dksX5_apply_1 13 rfl rfl)
theorem dX5_apply_38 : decode cX5_apply 38 = .ok (.iconst 4, 1) := dk_7 (dk_at dksX5_apply_1 14 rfl rfl)
theorem dX5_apply_39 : decode cX5_apply 39 = .ok (.invokevirtual 427, 3) := dk_182 1 171 (dk_at dksX5_apply_1 15 rfl rfl)
theorem dX5_apply_42 : decode cX5_apply 42 = .ok (.iconst 2, 1) := dk_5 (dk_at dksX5_apply_1 18 rfl rfl)
theorem dX5_apply_43 : decode cX5_apply 43 = .ok (.if_icmp .ne 16, 3) := dk_160 0 16 (dk_at dksX5_apply_1 19 rfl rfl)
theorem dX5_apply_46 : decode cX5_apply 46 = .ok (.aload_n 1, 1) := dk_43 (dk_at dksX5_apply_1 22 rfl rfl)
theorem dX5_apply_47 : decode cX5_apply 47 = .ok (.bipush 8, 2) := dk_16 8 (dk_at dksX5_apply_2 0 rfl rfl)
theorem dX5_apply_49 : decode cX5_apply 49 = .ok (.invokevirtual 427, 3) := dk_182 1 171 (dk_at dksX5_apply_2 2 rfl rfl)
theorem dX5_apply_52 : decode cX5_apply 52 = .ok (.ifCond .ne 7, 3) := dk_154 0 7 (dk_at dksX5_apply_2 5 rfl rfl)
theorem dX5_apply_55 : decode cX5_apply 55 = .ok (.iconst 1, 1) := dk_4 (dk_at dksX5_apply_2 8 rfl rfl)
theorem dX5_apply_56 : decode cX5_apply 56 = .ok (.goto 4, 3) := dk_167 0 4 (dk_at dksX5_apply_2 9 rfl rfl)
theorem dX5_apply_59 : decode cX5_apply 59 = .ok (.iconst 0, 1) := dk_3 (dk_at dksX5_apply_2 12 rfl rfl)
theorem dX5_apply_60 : decode cX5_apply 60 = .ok (.invokevirtual 541, 3) := dk_182 2 29 (dk_at dksX5_apply_2 13 rfl rfl)
theorem dX5_apply_63 : decode cX5_apply 63 = .ok (.iload 5, 2) := dk_21 5 (dk_at dksX5_apply_2 16 rfl rfl)
theorem dX5_apply_65 : decode cX5_apply 65 = .ok (.iconst 4, 1) := dk_7 (dk_at dksX5_apply_2 18 rfl rfl)
theorem dX5_apply_66 : decode cX5_apply 66 = .ok (.if_icmp .ne 17, 3) := dk_160 0 17 (dk_at dksX5_apply_2 19 rfl rfl)
theorem dX5_apply_69 : decode cX5_apply 69 = .ok (.aload_n 0, 1) := dk_42 (dk_at dksX5_apply_2 22 rfl rfl)
theorem dX5_apply_70 : decode cX5_apply 70 = .ok (.iload 4, 2) := dk_21 4 (dk_at dksX5_apply_3 0 rfl rfl)
theorem dX5_apply_72 : decode cX5_apply 72 = .ok (.aload_n 1, 1) := dk_43 (dk_at dksX5_apply_3 2 rfl rfl)
theorem dX5_apply_73 : decode cX5_apply 73 = .ok (.iconst 4, 1) := dk_7 (dk_at dksX5_apply_3 3 rfl rfl)
theorem dX5_apply_74 : decode cX5_apply 74 = .ok (.invokevirtual 427, 3) := dk_182 1 171 (dk_at dksX5_apply_3 4 rfl rfl)
theorem dX5_apply_77 : decode cX5_apply 77 = .ok (.invokevirtual 545, 3) := dk_182 2 33 (dk_at dksX5_apply_3 7 rfl rfl)
theorem dX5_apply_80 : decode cX5_apply 80 = .ok (.goto 103, 3) := dk_167 0 103 (dk_at dksX5_apply_3 10 rfl rfl)
theorem dX5_apply_83 : decode cX5_apply 83 = .ok (.iload 5, 2) := dk_21 5 (dk_at dksX5_apply_3 13 rfl rfl)
theorem dX5_apply_85 : decode cX5_apply 85 = .ok (.iconst 1, 1) := dk_4 (dk_at dksX5_apply_3 15 rfl rfl)
theorem dX5_apply_86 : decode cX5_apply 86 = .ok (.if_icmp .ne 20, 3) := dk_160 0 20 (dk_at dksX5_apply_3 16 rfl rfl)
theorem dX5_apply_89 : decode cX5_apply 89 = .ok (.aload_n 1, 1) := dk_43 (dk_at dksX5_apply_3 19 rfl rfl)
theorem dX5_apply_90 : decode cX5_apply 90 = .ok (.iconst 4, 1) := dk_7 (dk_at dksX5_apply_3 20 rfl rfl)
theorem dX5_apply_91 : decode cX5_apply 91 = .ok (.invokevirtual 427, 3) := dk_182 1 171 (dk_at dksX5_apply_3 21 rfl rfl)
theorem dX5_apply_94 : decode cX5_apply 94 = .ok (.ifCond .ne 12, 3) := dk_154 0 12 (dk_at dksX5_apply_4 0 rfl rfl)
theorem dX5_apply_97 : decode cX5_apply 97 = .ok (.aload_n 0, 1) := dk_42 (dk_at dksX5_apply_4 3 rfl rfl)
theorem dX5_apply_98 : decode cX5_apply 98 = .ok (.iload 4, 2) := dk_21 4 (dk_at dksX5_apply_4 4 rfl rfl)
theorem dX5_apply_100 : decode cX5_apply 100 = .ok (.invokevirtual 548, 3) := dk_182 2 36 (dk_at dksX5_apply_4 6 rfl rfl)
theorem dX5_apply_103 : decode cX5_apply 103 = .ok (.goto 80, 3) := dk_167 0 80 (dk_at dksX5_apply_4 9 rfl rfl)
theorem dX5_apply_106 : decode cX5_apply 106 = .ok (.iload 5, 2) := dk_21 5 (dk_at dksX5_apply_4 12 rfl rfl)
theorem dX5_apply_108 : decode cX5_apply 108 = .ok (.iconst 2, 1) := dk_5 (dk_at dksX5_apply_4 14 rfl rfl)
theorem dX5_apply_109 : decode cX5_apply 109 = .ok (.if_icmp .ne 11, 3) := dk_160 0 11 (dk_at dksX5_apply_4 15 rfl rfl)
theorem dX5_apply_112 : decode cX5_apply 112 = .ok (.aload_n 1, 1) := dk_43 (dk_at dksX5_apply_4 18 rfl rfl)
theorem dX5_apply_113 : decode cX5_apply 113 = .ok (.iconst 4, 1) := dk_7 (dk_at dksX5_apply_4 19 rfl rfl)
theorem dX5_apply_114 : decode cX5_apply 114 = .ok (.invokevirtual 427, 3) := dk_182 1 171 (dk_at dksX5_apply_4 20 rfl rfl)
theorem dX5_apply_117 : decode cX5_apply 117 = .ok (.ifCond .eq 19, 3) := dk_153 0 19 (dk_at dksX5_apply_5 0 rfl rfl)
theorem dX5_apply_120 : decode cX5_apply 120 = .ok (.iload 5, 2) := dk_21 5 (dk_at dksX5_apply_5 3 rfl rfl)
theorem dX5_apply_122 : decode cX5_apply 122 = .ok (.bipush 9, 2) := dk_16 9 (dk_at dksX5_apply_5 5 rfl rfl)
theorem dX5_apply_124 : decode cX5_apply 124 = .ok (.if_icmp .ne 30, 3) := dk_160 0 30 (dk_at dksX5_apply_5 7 rfl rfl)
theorem dX5_apply_127 : decode cX5_apply 127 = .ok (.aload_n 1, 1) := dk_43 (dk_at dksX5_apply_5 10 rfl rfl)
theorem dX5_apply_128 : decode cX5_apply 128 = .ok (.iconst 4, 1) := dk_7 (dk_at dksX5_apply_5 11 rfl rfl)
theorem dX5_apply_129 : decode cX5_apply 129 = .ok (.invokevirtual 427, 3) := dk_182 1 171 (dk_at dksX5_apply_5 12 rfl rfl)
theorem dX5_apply_132 : decode cX5_apply 132 = .ok (.iconst 1, 1) := dk_4 (dk_at dksX5_apply_5 15 rfl rfl)
theorem dX5_apply_133 : decode cX5_apply 133 = .ok (.if_icmp .ne 21, 3) := dk_160 0 21 (dk_at dksX5_apply_5 16 rfl rfl)
theorem dX5_apply_136 : decode cX5_apply 136 = .ok (.aload_n 0, 1) := dk_42 (dk_at dksX5_apply_5 19 rfl rfl)
theorem dX5_apply_137 : decode cX5_apply 137 = .ok (.getfield 108, 3) := dk_180 0 108 (dk_at dksX5_apply_5 20 rfl rfl)
theorem dX5_apply_140 : decode cX5_apply 140 = .ok (.aload_n 1, 1) := dk_43 (dk_at dksX5_apply_5 23 rfl rfl)
theorem dX5_apply_141 : decode cX5_apply 141 = .ok (.invokestatic 441, 3) := dk_184 1 185 (dk_at dksX5_apply_6 0 rfl rfl)
theorem dX5_apply_144 : decode cX5_apply 144 = .ok (.aload_n 1, 1) := dk_43 (dk_at dksX5_apply_6 3 rfl rfl)
theorem dX5_apply_145 : decode cX5_apply 145 = .ok (.invokestatic 445, 3) := dk_184 1 189 (dk_at dksX5_apply_6 4 rfl rfl)
theorem dX5_apply_148 : decode cX5_apply 148 = .ok (.invokevirtual 551, 3) := dk_182 2 39 (dk_at dksX5_apply_6 7 rfl rfl)
theorem dX5_apply_151 : decode cX5_apply 151 = .ok (.goto 32, 3) := dk_167 0 32 (dk_at dksX5_apply_6 10 rfl rfl)
theorem dX5_apply_154 : decode cX5_apply 154 = .ok (.iload 5, 2) := dk_21 5 (dk_at dksX5_apply_6 13 rfl rfl)
theorem dX5_apply_156 : decode cX5_apply 156 = .ok (.invokestatic 438, 3) := dk_184 1 182 (dk_at dksX5_apply_6 15 rfl rfl)
theorem dX5_apply_159 : decode cX5_apply 159 = .ok (.ifCond .eq 24, 3) := dk_153 0 24 (dk_at dksX5_apply_6 18 rfl rfl)
theorem dX5_apply_162 : decode cX5_apply 162 = .ok (.aload_n 0, 1) := dk_42 (dk_at dksX5_apply_6 21 rfl rfl)
theorem dX5_apply_163 : decode cX5_apply 163 = .ok (.getfield 108, 3) := dk_180 0 108 (dk_at dksX5_apply_7 0 rfl rfl)
theorem dX5_apply_166 : decode cX5_apply 166 = .ok (.aload_n 1, 1) := dk_43 (dk_at dksX5_apply_7 3 rfl rfl)
theorem dX5_apply_167 : decode cX5_apply 167 = .ok (.invokestatic 441, 3) := dk_184 1 185 (dk_at dksX5_apply_7 4 rfl rfl)
theorem dX5_apply_170 : decode cX5_apply 170 = .ok (.aload_n 1, 1) := dk_43 (dk_at dksX5_apply_7 7 rfl rfl)
theorem dX5_apply_171 : decode cX5_apply 171 = .ok (.invokestatic 445, 3) := dk_184 1 189 (dk_at dksX5_apply_7 8 rfl rfl)
theorem dX5_apply_174 : decode cX5_apply 174 = .ok (.iload_n 2, 1) := dk_28 (dk_at dksX5_apply_7 11 rfl rfl)
theorem dX5_apply_175 : decode cX5_apply 175 = .ok (.iload_n 3, 1) := dk_29 (dk_at dksX5_apply_7 12 rfl rfl)
theorem dX5_apply_176 : decode cX5_apply 176 = .ok (.aload_n 1, 1) := dk_43 (dk_at dksX5_apply_7 13 rfl rfl)
theorem dX5_apply_177 : decode cX5_apply 177 = .ok (.invokevirtual 176, 3) := dk_182 0 176 (dk_at dksX5_apply_7 14 rfl rfl)
theorem dX5_apply_180 : decode cX5_apply 180 = .ok (.invokevirtual 457, 3) := dk_182 1 201 (dk_at dksX5_apply_7 17 rfl rfl)
theorem dX5_apply_183 : decode cX5_apply 183 = .ok (.return_, 1) := dk_177 (dk_at dksX5_apply_7 20 rfl rfl)
abbrev cX5_name : ByteArray := prog_9_method_45_code
def yX5_name : MethodName := ⟨RX5, "name", "(IZ)V"⟩
def dkwX5_name_3 : List UInt8 := [28, 153, 0, 20, 42, 180, 0, 47, 42, 89, 180, 1, 37, 90, 4, 96, 181, 1, 37, 27, 79, 177]
abbrev dktX5_name_3 : List UInt8 := dkwX5_name_3 ++ []
def dkwX5_name_2 : List UInt8 := [42, 89, 180, 1, 37, 4, 100, 90, 181, 1, 37, 46, 79, 167, 0, 32, 29, 42, 180, 1, 37, 160, 0, 24]
abbrev dktX5_name_2 : List UInt8 := dkwX5_name_2 ++ dktX5_name_3
def dkwX5_name_1 : List UInt8 := [167, 255, 235, 29, 42, 180, 1, 37, 162, 0, 32, 28, 154, 0, 28, 42, 180, 0, 47, 29, 42, 180, 0, 47]
abbrev dktX5_name_1 : List UInt8 := dkwX5_name_1 ++ dktX5_name_2
def dkwX5_name_0 : List UInt8 := [3, 62, 29, 42, 180, 1, 37, 162, 0, 19, 42, 180, 0, 47, 29, 46, 27, 159, 0, 9, 132, 3, 1]
abbrev dktX5_name_0 : List UInt8 := dkwX5_name_0 ++ dktX5_name_1
theorem dksX5_name_0 : cX5_name.data.toList.drop 0 = dktX5_name_0 := by decide +kernel
theorem dksX5_name_1 : cX5_name.data.toList.drop 23 = dktX5_name_1 := dk_seg dksX5_name_0 23 rfl rfl
theorem dksX5_name_2 : cX5_name.data.toList.drop 47 = dktX5_name_2 := dk_seg dksX5_name_1 24 rfl rfl
theorem dksX5_name_3 : cX5_name.data.toList.drop 71 = dktX5_name_3 := dk_seg dksX5_name_2 24 rfl rfl
theorem dX5_name_0 : decode cX5_name 0 = .ok (.iconst 0, 1) := dk_3 (dk_at dksX5_name_0 0 rfl rfl)
theorem dX5_name_1 : decode cX5_name 1 = .ok (.istore_n 3, 1) := dk_62 (dk_at dksX5_name_0 1 rfl rfl)
theorem dX5_name_2 : decode cX5_name 2 = .ok (.iload_n 3, 1) := dk_29 (dk_at dksX5_name_0 2 rfl rfl)
theorem dX5_name_3 : decode cX5_name 3 = .ok (.aload_n 0, 1) := dk_42 (dk_at dksX5_name_0 3 rfl rfl)
theorem dX5_name_4 : decode cX5_name 4 = .ok (.getfield 293, 3) := dk_180 1 37 (dk_at dksX5_name_0 4 rfl rfl)
theorem dX5_name_7 : decode cX5_name 7 = .ok (.if_icmp .ge 19, 3) := dk_162 0 19 (dk_at dksX5_name_0 7 rfl rfl)
theorem dX5_name_10 : decode cX5_name 10 = .ok (.aload_n 0, 1) := dk_42 (dk_at dksX5_name_0 10 rfl rfl)
theorem dX5_name_11 : decode cX5_name 11 = .ok (.getfield 47, 3) := dk_180 0 47 (dk_at dksX5_name_0 11 rfl rfl)
theorem dX5_name_14 : decode cX5_name 14 = .ok (.iload_n 3, 1) := dk_29 (dk_at dksX5_name_0 14 rfl rfl)
theorem dX5_name_15 : decode cX5_name 15 = .ok (.iaload, 1) := dk_46 (dk_at dksX5_name_0 15 rfl rfl)
theorem dX5_name_16 : decode cX5_name 16 = .ok (.iload_n 1, 1) := dk_27 (dk_at dksX5_name_0 16 rfl rfl)
theorem dX5_name_17 : decode cX5_name 17 = .ok (.if_icmp .eq 9, 3) := dk_159 0 9 (dk_at dksX5_name_0 17 rfl rfl)
theorem dX5_name_20 : decode cX5_name 20 = .ok (.iinc 3 1, 3) := dk_132 3 1 (dk_at dksX5_name_0 20 rfl rfl)
theorem dX5_name_23 : decode cX5_name 23 = .ok (.goto (-21), 3) := dk_167 255 235 (dk_at dksX5_name_1 0 rfl rfl)
theorem dX5_name_26 : decode cX5_name 26 = .ok (.iload_n 3, 1) := dk_29 (dk_at dksX5_name_1 3 rfl rfl)
theorem dX5_name_27 : decode cX5_name 27 = .ok (.aload_n 0, 1) := dk_42 (dk_at dksX5_name_1 4 rfl rfl)
theorem dX5_name_28 : decode cX5_name 28 = .ok (.getfield 293, 3) := dk_180 1 37 (dk_at dksX5_name_1 5 rfl rfl)
theorem dX5_name_31 : decode cX5_name 31 = .ok (.if_icmp .ge 32, 3) := dk_162 0 32 (dk_at dksX5_name_1 8 rfl rfl)
theorem dX5_name_34 : decode cX5_name 34 = .ok (.iload_n 2, 1) := dk_28 (dk_at dksX5_name_1 11 rfl rfl)
theorem dX5_name_35 : decode cX5_name 35 = .ok (.ifCond .ne 28, 3) := dk_154 0 28 (dk_at dksX5_name_1 12 rfl rfl)
theorem dX5_name_38 : decode cX5_name 38 = .ok (.aload_n 0, 1) := dk_42 (dk_at dksX5_name_1 15 rfl rfl)
theorem dX5_name_39 : decode cX5_name 39 = .ok (.getfield 47, 3) := dk_180 0 47 (dk_at dksX5_name_1 16 rfl rfl)
theorem dX5_name_42 : decode cX5_name 42 = .ok (.iload_n 3, 1) := dk_29 (dk_at dksX5_name_1 19 rfl rfl)
theorem dX5_name_43 : decode cX5_name 43 = .ok (.aload_n 0, 1) := dk_42 (dk_at dksX5_name_1 20 rfl rfl)
theorem dX5_name_44 : decode cX5_name 44 = .ok (.getfield 47, 3) := dk_180 0 47 (dk_at dksX5_name_1 21 rfl rfl)
theorem dX5_name_47 : decode cX5_name 47 = .ok (.aload_n 0, 1) := dk_42 (dk_at dksX5_name_2 0 rfl rfl)
theorem dX5_name_48 : decode cX5_name 48 = .ok (.dup, 1) := dk_89 (dk_at dksX5_name_2 1 rfl rfl)
theorem dX5_name_49 : decode cX5_name 49 = .ok (.getfield 293, 3) := dk_180 1 37 (dk_at dksX5_name_2 2 rfl rfl)
theorem dX5_name_52 : decode cX5_name 52 = .ok (.iconst 1, 1) := dk_4 (dk_at dksX5_name_2 5 rfl rfl)
theorem dX5_name_53 : decode cX5_name 53 = .ok (.isub, 1) := dk_100 (dk_at dksX5_name_2 6 rfl rfl)
theorem dX5_name_54 : decode cX5_name 54 = .ok (.dup_x1, 1) := dk_90 (dk_at dksX5_name_2 7 rfl rfl)
theorem dX5_name_55 : decode cX5_name 55 = .ok (.putfield 293, 3) := dk_181 1 37 (dk_at dksX5_name_2 8 rfl rfl)
theorem dX5_name_58 : decode cX5_name 58 = .ok (.iaload, 1) := dk_46 (dk_at dksX5_name_2 11 rfl rfl)
theorem dX5_name_59 : decode cX5_name 59 = .ok (.iastore, 1) := dk_79 (dk_at dksX5_name_2 12 rfl rfl)
theorem dX5_name_60 : decode cX5_name 60 = .ok (.goto 32, 3) := dk_167 0 32 (dk_at dksX5_name_2 13 rfl rfl)
theorem dX5_name_63 : decode cX5_name 63 = .ok (.iload_n 3, 1) := dk_29 (dk_at dksX5_name_2 16 rfl rfl)
theorem dX5_name_64 : decode cX5_name 64 = .ok (.aload_n 0, 1) := dk_42 (dk_at dksX5_name_2 17 rfl rfl)
theorem dX5_name_65 : decode cX5_name 65 = .ok (.getfield 293, 3) := dk_180 1 37 (dk_at dksX5_name_2 18 rfl rfl)
theorem dX5_name_68 : decode cX5_name 68 = .ok (.if_icmp .ne 24, 3) := dk_160 0 24 (dk_at dksX5_name_2 21 rfl rfl)
theorem dX5_name_71 : decode cX5_name 71 = .ok (.iload_n 2, 1) := dk_28 (dk_at dksX5_name_3 0 rfl rfl)
theorem dX5_name_72 : decode cX5_name 72 = .ok (.ifCond .eq 20, 3) := dk_153 0 20 (dk_at dksX5_name_3 1 rfl rfl)
theorem dX5_name_75 : decode cX5_name 75 = .ok (.aload_n 0, 1) := dk_42 (dk_at dksX5_name_3 4 rfl rfl)
theorem dX5_name_76 : decode cX5_name 76 = .ok (.getfield 47, 3) := dk_180 0 47 (dk_at dksX5_name_3 5 rfl rfl)
theorem dX5_name_79 : decode cX5_name 79 = .ok (.aload_n 0, 1) := dk_42 (dk_at dksX5_name_3 8 rfl rfl)
theorem dX5_name_80 : decode cX5_name 80 = .ok (.dup, 1) := dk_89 (dk_at dksX5_name_3 9 rfl rfl)
theorem dX5_name_81 : decode cX5_name 81 = .ok (.getfield 293, 3) := dk_180 1 37 (dk_at dksX5_name_3 10 rfl rfl)
theorem dX5_name_84 : decode cX5_name 84 = .ok (.dup_x1, 1) := dk_90 (dk_at dksX5_name_3 13 rfl rfl)
theorem dX5_name_85 : decode cX5_name 85 = .ok (.iconst 1, 1) := dk_4 (dk_at dksX5_name_3 14 rfl rfl)
theorem dX5_name_86 : decode cX5_name 86 = .ok (.iadd, 1) := dk_96 (dk_at dksX5_name_3 15 rfl rfl)
theorem dX5_name_87 : decode cX5_name 87 = .ok (.putfield 293, 3) := dk_181 1 37 (dk_at dksX5_name_3 16 rfl rfl)
theorem dX5_name_90 : decode cX5_name 90 = .ok (.iload_n 1, 1) := dk_27 (dk_at dksX5_name_3 19 rfl rfl)
theorem dX5_name_91 : decode cX5_name 91 = .ok (.iastore, 1) := dk_79 (dk_at dksX5_name_3 20 rfl rfl)
theorem dX5_name_92 : decode cX5_name 92 = .ok (.return_, 1) := dk_177 (dk_at dksX5_name_3 21 rfl rfl)
abbrev cX5_shorten : ByteArray := prog_9_method_47_code
def yX5_shorten : MethodName := ⟨RX5, "shorten", "(II)V"⟩
def dkwX5_shorten_2 : List UInt8 := [180, 0, 108, 180, 2, 46, 42, 180, 0, 108, 180, 2, 48, 182, 2, 39, 167, 255, 203, 177]
abbrev dktX5_shorten_2 : List UInt8 := dkwX5_shorten_2 ++ []
def dkwX5_shorten_1 : List UInt8 := [153, 0, 43, 42, 180, 0, 108, 180, 2, 46, 27, 4, 184, 1, 204, 148, 154, 0, 27, 42, 180, 0, 108, 42]
abbrev dktX5_shorten_1 : List UInt8 := dkwX5_shorten_1 ++ dktX5_shorten_2
def dkwX5_shorten_0 : List UInt8 := [28, 16, 64, 96, 4, 100, 16, 64, 108, 133, 66, 42, 180, 0, 108, 27, 4, 184, 1, 204, 33, 182, 2, 43]
abbrev dktX5_shorten_0 : List UInt8 := dkwX5_shorten_0 ++ dktX5_shorten_1
theorem dksX5_shorten_0 : cX5_shorten.data.toList.drop 0 = dktX5_shorten_0 := by decide +kernel
theorem dksX5_shorten_1 : cX5_shorten.data.toList.drop 24 = dktX5_shorten_1 := dk_seg dksX5_shorten_0 24 rfl rfl
theorem dksX5_shorten_2 : cX5_shorten.data.toList.drop 48 = dktX5_shorten_2 := dk_seg dksX5_shorten_1 24 rfl rfl
theorem dX5_shorten_0 : decode cX5_shorten 0 = .ok (.iload_n 2, 1) := dk_28 (dk_at dksX5_shorten_0 0 rfl rfl)
theorem dX5_shorten_1 : decode cX5_shorten 1 = .ok (.bipush 64, 2) := dk_16 64 (dk_at dksX5_shorten_0 1 rfl rfl)
theorem dX5_shorten_3 : decode cX5_shorten 3 = .ok (.iadd, 1) := dk_96 (dk_at dksX5_shorten_0 3 rfl rfl)
theorem dX5_shorten_4 : decode cX5_shorten 4 = .ok (.iconst 1, 1) := dk_4 (dk_at dksX5_shorten_0 4 rfl rfl)
theorem dX5_shorten_5 : decode cX5_shorten 5 = .ok (.isub, 1) := dk_100 (dk_at dksX5_shorten_0 5 rfl rfl)
theorem dX5_shorten_6 : decode cX5_shorten 6 = .ok (.bipush 64, 2) := dk_16 64 (dk_at dksX5_shorten_0 6 rfl rfl)
theorem dX5_shorten_8 : decode cX5_shorten 8 = .ok (.idiv, 1) := dk_108 (dk_at dksX5_shorten_0 8 rfl rfl)
theorem dX5_shorten_9 : decode cX5_shorten 9 = .ok (.i2l, 1) := dk_133 (dk_at dksX5_shorten_0 9 rfl rfl)
theorem dX5_shorten_10 : decode cX5_shorten 10 = .ok (.lstore_n 3, 1) := dk_66 (dk_at dksX5_shorten_0 10 rfl rfl)
theorem dX5_shorten_11 : decode cX5_shorten 11 = .ok (.aload_n 0, 1) := dk_42 (dk_at dksX5_shorten_0 11 rfl rfl)
theorem dX5_shorten_12 : decode cX5_shorten 12 = .ok (.getfield 108, 3) := dk_180 0 108 (dk_at dksX5_shorten_0 12 rfl rfl)
theorem dX5_shorten_15 : decode cX5_shorten 15 = .ok (.iload_n 1, 1) := dk_27 (dk_at dksX5_shorten_0 15 rfl rfl)
theorem dX5_shorten_16 : decode cX5_shorten 16 = .ok (.iconst 1, 1) := dk_4 (dk_at dksX5_shorten_0 16 rfl rfl)
theorem dX5_shorten_17 : decode cX5_shorten 17 = .ok (.invokestatic 460, 3) := dk_184 1 204 (dk_at dksX5_shorten_0 17 rfl rfl)
theorem dX5_shorten_20 : decode cX5_shorten 20 = .ok (.lload_n 3, 1) := dk_33 (dk_at dksX5_shorten_0 20 rfl rfl)
theorem dX5_shorten_21 : decode cX5_shorten 21 = .ok (.invokevirtual 555, 3) := dk_182 2 43 (dk_at dksX5_shorten_0 21 rfl rfl)
theorem dX5_shorten_24 : decode cX5_shorten 24 = .ok (.ifCond .eq 43, 3) := dk_153 0 43 (dk_at dksX5_shorten_1 0 rfl rfl)
theorem dX5_shorten_27 : decode cX5_shorten 27 = .ok (.aload_n 0, 1) := dk_42 (dk_at dksX5_shorten_1 3 rfl rfl)
theorem dX5_shorten_28 : decode cX5_shorten 28 = .ok (.getfield 108, 3) := dk_180 0 108 (dk_at dksX5_shorten_1 4 rfl rfl)
theorem dX5_shorten_31 : decode cX5_shorten 31 = .ok (.getfield 558, 3) := dk_180 2 46 (dk_at dksX5_shorten_1 7 rfl rfl)
theorem dX5_shorten_34 : decode cX5_shorten 34 = .ok (.iload_n 1, 1) := dk_27 (dk_at dksX5_shorten_1 10 rfl rfl)
theorem dX5_shorten_35 : decode cX5_shorten 35 = .ok (.iconst 1, 1) := dk_4 (dk_at dksX5_shorten_1 11 rfl rfl)
theorem dX5_shorten_36 : decode cX5_shorten 36 = .ok (.invokestatic 460, 3) := dk_184 1 204 (dk_at dksX5_shorten_1 12 rfl rfl)
theorem dX5_shorten_39 : decode cX5_shorten 39 = .ok (.lcmp, 1) := dk_148 (dk_at dksX5_shorten_1 15 rfl rfl)
theorem dX5_shorten_40 : decode cX5_shorten 40 = .ok (.ifCond .ne 27, 3) := dk_154 0 27 (dk_at dksX5_shorten_1 16 rfl rfl)
theorem dX5_shorten_43 : decode cX5_shorten 43 = .ok (.aload_n 0, 1) := dk_42 (dk_at dksX5_shorten_1 19 rfl rfl)
theorem dX5_shorten_44 : decode cX5_shorten 44 = .ok (.getfield 108, 3) := dk_180 0 108 (dk_at dksX5_shorten_1 20 rfl rfl)
theorem dX5_shorten_47 : decode cX5_shorten 47 = .ok (.aload_n 0, 1) := dk_42 (dk_at dksX5_shorten_1 23 rfl rfl)
theorem dX5_shorten_48 : decode cX5_shorten 48 = .ok (.getfield 108, 3) := dk_180 0 108 (dk_at dksX5_shorten_2 0 rfl rfl)
theorem dX5_shorten_51 : decode cX5_shorten 51 = .ok (.getfield 558, 3) := dk_180 2 46 (dk_at dksX5_shorten_2 3 rfl rfl)
theorem dX5_shorten_54 : decode cX5_shorten 54 = .ok (.aload_n 0, 1) := dk_42 (dk_at dksX5_shorten_2 6 rfl rfl)
theorem dX5_shorten_55 : decode cX5_shorten 55 = .ok (.getfield 108, 3) := dk_180 0 108 (dk_at dksX5_shorten_2 7 rfl rfl)
theorem dX5_shorten_58 : decode cX5_shorten 58 = .ok (.getfield 560, 3) := dk_180 2 48 (dk_at dksX5_shorten_2 10 rfl rfl)
theorem dX5_shorten_61 : decode cX5_shorten 61 = .ok (.invokevirtual 551, 3) := dk_182 2 39 (dk_at dksX5_shorten_2 13 rfl rfl)
theorem dX5_shorten_64 : decode cX5_shorten 64 = .ok (.goto (-53), 3) := dk_167 255 203 (dk_at dksX5_shorten_2 16 rfl rfl)
theorem dX5_shorten_67 : decode cX5_shorten 67 = .ok (.return_, 1) := dk_177 (dk_at dksX5_shorten_2 19 rfl rfl)
abbrev cX5_forget : ByteArray := prog_9_method_46_code
def yX5_forget : MethodName := ⟨RX5, "forget", "(I)V"⟩
def dkwX5_forget_3 : List UInt8 := [184, 1, 204, 9, 182, 2, 39, 177]
abbrev dktX5_forget_3 : List UInt8 := dkwX5_forget_3 ++ []
def dkwX5_forget_2 : List UInt8 := [180, 2, 46, 42, 180, 0, 108, 180, 2, 48, 182, 2, 39, 167, 255, 203, 42, 180, 0, 108, 27, 3]
abbrev dktX5_forget_2 : List UInt8 := dkwX5_forget_2 ++ dktX5_forget_3
def dkwX5_forget_1 : List UInt8 := [180, 0, 108, 180, 2, 46, 27, 6, 184, 1, 204, 148, 154, 0, 27, 42, 180, 0, 108, 42, 180, 0, 108]
abbrev dktX5_forget_1 : List UInt8 := dkwX5_forget_1 ++ dktX5_forget_2
def dkwX5_forget_0 : List UInt8 := [42, 27, 3, 182, 2, 33, 42, 180, 0, 108, 27, 6, 184, 1, 204, 9, 182, 2, 43, 153, 0, 43, 42]
abbrev dktX5_forget_0 : List UInt8 := dkwX5_forget_0 ++ dktX5_forget_1
theorem dksX5_forget_0 : cX5_forget.data.toList.drop 0 = dktX5_forget_0 := by decide +kernel
theorem dksX5_forget_1 : cX5_forget.data.toList.drop 23 = dktX5_forget_1 := dk_seg dksX5_forget_0 23 rfl rfl
theorem dksX5_forget_2 : cX5_forget.data.toList.drop 46 = dktX5_forget_2 := dk_seg dksX5_forget_1 23 rfl rfl
theorem dksX5_forget_3 : cX5_forget.data.toList.drop 68 = dktX5_forget_3 := dk_seg dksX5_forget_2 22 rfl rfl
theorem dX5_forget_0 : decode cX5_forget 0 = .ok (.aload_n 0, 1) := dk_42 (dk_at dksX5_forget_0 0 rfl rfl)
theorem dX5_forget_1 : decode cX5_forget 1 = .ok (.iload_n 1, 1) := dk_27 (dk_at dksX5_forget_0 1 rfl rfl)
theorem dX5_forget_2 : decode cX5_forget 2 = .ok (.iconst 0, 1) := dk_3 (dk_at dksX5_forget_0 2 rfl rfl)
theorem dX5_forget_3 : decode cX5_forget 3 = .ok (.invokevirtual 545, 3) := dk_182 2 33 (dk_at dksX5_forget_0 3 rfl rfl)
theorem dX5_forget_6 : decode cX5_forget 6 = .ok (.aload_n 0, 1) := dk_42 (dk_at dksX5_forget_0 6 rfl rfl)
theorem dX5_forget_7 : decode cX5_forget 7 = .ok (.getfield 108, 3) := dk_180 0 108 (dk_at dksX5_forget_0 7 rfl rfl)
theorem dX5_forget_10 : decode cX5_forget 10 = .ok (.iload_n 1, 1) := dk_27 (dk_at dksX5_forget_0 10 rfl rfl)
theorem dX5_forget_11 : decode cX5_forget 11 = .ok (.iconst 3, 1) := dk_6 (dk_at dksX5_forget_0 11 rfl rfl)
theorem dX5_forget_12 : decode cX5_forget 12 = .ok (.invokestatic 460, 3) := dk_184 1 204 (dk_at dksX5_forget_0 12 rfl rfl)
theorem dX5_forget_15 : decode cX5_forget 15 = .ok (.lconst 0, 1) := dk_9 (dk_at dksX5_forget_0 15 rfl rfl)
theorem dX5_forget_16 : decode cX5_forget 16 = .ok (.invokevirtual 555, 3) := dk_182 2 43 (dk_at dksX5_forget_0 16 rfl rfl)
theorem dX5_forget_19 : decode cX5_forget 19 = .ok (.ifCond .eq 43, 3) := dk_153 0 43 (dk_at dksX5_forget_0 19 rfl rfl)
theorem dX5_forget_22 : decode cX5_forget 22 = .ok (.aload_n 0, 1) := dk_42 (dk_at dksX5_forget_0 22 rfl rfl)
theorem dX5_forget_23 : decode cX5_forget 23 = .ok (.getfield 108, 3) := dk_180 0 108 (dk_at dksX5_forget_1 0 rfl rfl)
theorem dX5_forget_26 : decode cX5_forget 26 = .ok (.getfield 558, 3) := dk_180 2 46 (dk_at dksX5_forget_1 3 rfl rfl)
theorem dX5_forget_29 : decode cX5_forget 29 = .ok (.iload_n 1, 1) := dk_27 (dk_at dksX5_forget_1 6 rfl rfl)
theorem dX5_forget_30 : decode cX5_forget 30 = .ok (.iconst 3, 1) := dk_6 (dk_at dksX5_forget_1 7 rfl rfl)
theorem dX5_forget_31 : decode cX5_forget 31 = .ok (.invokestatic 460, 3) := dk_184 1 204 (dk_at dksX5_forget_1 8 rfl rfl)
theorem dX5_forget_34 : decode cX5_forget 34 = .ok (.lcmp, 1) := dk_148 (dk_at dksX5_forget_1 11 rfl rfl)
theorem dX5_forget_35 : decode cX5_forget 35 = .ok (.ifCond .ne 27, 3) := dk_154 0 27 (dk_at dksX5_forget_1 12 rfl rfl)
theorem dX5_forget_38 : decode cX5_forget 38 = .ok (.aload_n 0, 1) := dk_42 (dk_at dksX5_forget_1 15 rfl rfl)
theorem dX5_forget_39 : decode cX5_forget 39 = .ok (.getfield 108, 3) := dk_180 0 108 (dk_at dksX5_forget_1 16 rfl rfl)
theorem dX5_forget_42 : decode cX5_forget 42 = .ok (.aload_n 0, 1) := dk_42 (dk_at dksX5_forget_1 19 rfl rfl)
theorem dX5_forget_43 : decode cX5_forget 43 = .ok (.getfield 108, 3) := dk_180 0 108 (dk_at dksX5_forget_1 20 rfl rfl)
theorem dX5_forget_46 : decode cX5_forget 46 = .ok (.getfield 558, 3) := dk_180 2 46 (dk_at dksX5_forget_2 0 rfl rfl)
theorem dX5_forget_49 : decode cX5_forget 49 = .ok (.aload_n 0, 1) := dk_42 (dk_at dksX5_forget_2 3 rfl rfl)
theorem dX5_forget_50 : decode cX5_forget 50 = .ok (.getfield 108, 3) := dk_180 0 108 (dk_at dksX5_forget_2 4 rfl rfl)
theorem dX5_forget_53 : decode cX5_forget 53 = .ok (.getfield 560, 3) := dk_180 2 48 (dk_at dksX5_forget_2 7 rfl rfl)
theorem dX5_forget_56 : decode cX5_forget 56 = .ok (.invokevirtual 551, 3) := dk_182 2 39 (dk_at dksX5_forget_2 10 rfl rfl)
theorem dX5_forget_59 : decode cX5_forget 59 = .ok (.goto (-53), 3) := dk_167 255 203 (dk_at dksX5_forget_2 13 rfl rfl)
theorem dX5_forget_62 : decode cX5_forget 62 = .ok (.aload_n 0, 1) := dk_42 (dk_at dksX5_forget_2 16 rfl rfl)
theorem dX5_forget_63 : decode cX5_forget 63 = .ok (.getfield 108, 3) := dk_180 0 108 (dk_at dksX5_forget_2 17 rfl rfl)
theorem dX5_forget_66 : decode cX5_forget 66 = .ok (.iload_n 1, 1) := dk_27 (dk_at dksX5_forget_2 20 rfl rfl)
theorem dX5_forget_67 : decode cX5_forget 67 = .ok (.iconst 0, 1) := dk_3 (dk_at dksX5_forget_2 21 rfl rfl)
theorem dX5_forget_68 : decode cX5_forget 68 = .ok (.invokestatic 460, 3) := dk_184 1 204 (dk_at dksX5_forget_3 0 rfl rfl)
theorem dX5_forget_71 : decode cX5_forget 71 = .ok (.lconst 0, 1) := dk_9 (dk_at dksX5_forget_3 3 rfl rfl)
theorem dX5_forget_72 : decode cX5_forget 72 = .ok (.invokevirtual 551, 3) := dk_182 2 39 (dk_at dksX5_forget_3 4 rfl rfl)
theorem dX5_forget_75 : decode cX5_forget 75 = .ok (.return_, 1) := dk_177 (dk_at dksX5_forget_3 7 rfl rfl)
abbrev cX5_lose : ByteArray := prog_9_method_37_code
def yX5_lose : MethodName := ⟨RX5, "lose", "()V"⟩
def dkwX5_lose_1 : List UInt8 := [181, 0, 206, 42, 3, 181, 1, 52, 42, 2, 181, 0, 58, 42, 3, 181, 1, 133, 177]
abbrev dktX5_lose_1 : List UInt8 := dkwX5_lose_1 ++ []
def dkwX5_lose_0 : List UInt8 := [42, 180, 0, 117, 182, 1, 235, 42, 180, 0, 121, 182, 1, 235, 42, 180, 0, 124, 182, 1, 235, 42, 3]
abbrev dktX5_lose_0 : List UInt8 := dkwX5_lose_0 ++ dktX5_lose_1
theorem dksX5_lose_0 : cX5_lose.data.toList.drop 0 = dktX5_lose_0 := by decide +kernel
theorem dksX5_lose_1 : cX5_lose.data.toList.drop 23 = dktX5_lose_1 := dk_seg dksX5_lose_0 23 rfl rfl
theorem dX5_lose_0 : decode cX5_lose 0 = .ok (.aload_n 0, 1) := dk_42 (dk_at dksX5_lose_0 0 rfl rfl)
theorem dX5_lose_1 : decode cX5_lose 1 = .ok (.getfield 117, 3) := dk_180 0 117 (dk_at dksX5_lose_0 1 rfl rfl)
theorem dX5_lose_4 : decode cX5_lose 4 = .ok (.invokevirtual 491, 3) := dk_182 1 235 (dk_at dksX5_lose_0 4 rfl rfl)
theorem dX5_lose_7 : decode cX5_lose 7 = .ok (.aload_n 0, 1) := dk_42 (dk_at dksX5_lose_0 7 rfl rfl)
theorem dX5_lose_8 : decode cX5_lose 8 = .ok (.getfield 121, 3) := dk_180 0 121 (dk_at dksX5_lose_0 8 rfl rfl)
theorem dX5_lose_11 : decode cX5_lose 11 = .ok (.invokevirtual 491, 3) := dk_182 1 235 (dk_at dksX5_lose_0 11 rfl rfl)
theorem dX5_lose_14 : decode cX5_lose 14 = .ok (.aload_n 0, 1) := dk_42 (dk_at dksX5_lose_0 14 rfl rfl)
theorem dX5_lose_15 : decode cX5_lose 15 = .ok (.getfield 124, 3) := dk_180 0 124 (dk_at dksX5_lose_0 15 rfl rfl)
theorem dX5_lose_18 : decode cX5_lose 18 = .ok (.invokevirtual 491, 3) := dk_182 1 235 (dk_at dksX5_lose_0 18 rfl rfl)
theorem dX5_lose_21 : decode cX5_lose 21 = .ok (.aload_n 0, 1) := dk_42 (dk_at dksX5_lose_0 21 rfl rfl)
theorem dX5_lose_22 : decode cX5_lose 22 = .ok (.iconst 0, 1) := dk_3 (dk_at dksX5_lose_0 22 rfl rfl)
theorem dX5_lose_23 : decode cX5_lose 23 = .ok (.putfield 206, 3) := dk_181 0 206 (dk_at dksX5_lose_1 0 rfl rfl)
theorem dX5_lose_26 : decode cX5_lose 26 = .ok (.aload_n 0, 1) := dk_42 (dk_at dksX5_lose_1 3 rfl rfl)
theorem dX5_lose_27 : decode cX5_lose 27 = .ok (.iconst 0, 1) := dk_3 (dk_at dksX5_lose_1 4 rfl rfl)
theorem dX5_lose_28 : decode cX5_lose 28 = .ok (.putfield 308, 3) := dk_181 1 52 (dk_at dksX5_lose_1 5 rfl rfl)
theorem dX5_lose_31 : decode cX5_lose 31 = .ok (.aload_n 0, 1) := dk_42 (dk_at dksX5_lose_1 8 rfl rfl)
theorem dX5_lose_32 : decode cX5_lose 32 = .ok (.iconst (-1), 1) := dk_2 (dk_at dksX5_lose_1 9 rfl rfl)
theorem dX5_lose_33 : decode cX5_lose 33 = .ok (.putfield 58, 3) := dk_181 0 58 (dk_at dksX5_lose_1 10 rfl rfl)
theorem dX5_lose_36 : decode cX5_lose 36 = .ok (.aload_n 0, 1) := dk_42 (dk_at dksX5_lose_1 13 rfl rfl)
theorem dX5_lose_37 : decode cX5_lose 37 = .ok (.iconst 0, 1) := dk_3 (dk_at dksX5_lose_1 14 rfl rfl)
theorem dX5_lose_38 : decode cX5_lose 38 = .ok (.putfield 389, 3) := dk_181 1 133 (dk_at dksX5_lose_1 15 rfl rfl)
theorem dX5_lose_41 : decode cX5_lose 41 = .ok (.return_, 1) := dk_177 (dk_at dksX5_lose_1 18 rfl rfl)
abbrev cX5_find : ByteArray := prog_9_method_38_code
def yX5_find : MethodName := ⟨RX5, "find", "()V"⟩
def dkwX5_find_17 : List UInt8 := [180, 1, 34, 182, 2, 6, 42, 8, 42, 180, 0, 38, 100, 42, 180, 1, 34, 4, 96, 182, 2, 6, 177]
abbrev dktX5_find_17 : List UInt8 := dkwX5_find_17 ++ []
def dkwX5_find_16 : List UInt8 := [180, 0, 16, 182, 1, 247, 184, 1, 255, 181, 0, 127, 42, 182, 2, 3, 42, 42, 180, 0, 38, 42]
abbrev dktX5_find_16 : List UInt8 := dkwX5_find_16 ++ dktX5_find_17
def dkwX5_find_15 : List UInt8 := [180, 0, 79, 180, 0, 86, 100, 104, 182, 1, 171, 79, 132, 3, 1, 167, 255, 215, 42, 42, 180, 0, 127, 42]
abbrev dktX5_find_15 : List UInt8 := dkwX5_find_15 ++ dktX5_find_16
def dkwX5_find_14 : List UInt8 := [180, 0, 71, 180, 0, 83, 162, 0, 36, 42, 180, 0, 79, 180, 1, 107, 29, 42, 180, 0, 16, 7, 29, 42]
abbrev dktX5_find_14 : List UInt8 := dkwX5_find_14 ++ dktX5_find_15
def dkwX5_find_13 : List UInt8 := [180, 0, 79, 180, 1, 112, 42, 180, 0, 44, 4, 84, 42, 180, 0, 79, 180, 0, 86, 62, 29, 42]
abbrev dktX5_find_13 : List UInt8 := dkwX5_find_13 ++ dktX5_find_14
def dkwX5_find_12 : List UInt8 := [182, 1, 252, 42, 42, 180, 0, 44, 42, 180, 1, 119, 42, 180, 1, 116, 42, 180, 0, 16, 182, 0, 173, 42]
abbrev dktX5_find_12 : List UInt8 := dkwX5_find_12 ++ dktX5_find_13
def dkwX5_find_11 : List UInt8 := [181, 0, 127, 42, 180, 0, 108, 42, 42, 180, 0, 196, 42, 180, 0, 203, 42, 180, 1, 43, 182, 1, 248]
abbrev dktX5_find_11 : List UInt8 := dkwX5_find_11 ++ dktX5_find_12
def dkwX5_find_10 : List UInt8 := [16, 32, 182, 1, 171, 181, 1, 116, 132, 4, 1, 167, 255, 55, 132, 3, 1, 167, 255, 41, 42, 31]
abbrev dktX5_find_10 : List UInt8 := dkwX5_find_10 ++ dktX5_find_11
def dkwX5_find_9 : List UInt8 := [182, 1, 171, 181, 0, 44, 42, 42, 180, 0, 23, 16, 28, 182, 1, 171, 181, 1, 119, 42, 42, 180, 0, 23]
abbrev dktX5_find_9 : List UInt8 := dkwX5_find_9 ++ dktX5_find_10
def dkwX5_find_8 : List UInt8 := [181, 1, 43, 42, 42, 180, 0, 23, 16, 20, 182, 1, 171, 181, 0, 30, 42, 42, 180, 0, 23, 16, 24]
abbrev dktX5_find_8 : List UInt8 := dkwX5_find_8 ++ dktX5_find_9
def dkwX5_find_7 : List UInt8 := [42, 180, 0, 23, 16, 12, 182, 1, 171, 181, 0, 203, 42, 42, 180, 0, 23, 16, 16, 182, 1, 171]
abbrev dktX5_find_7 : List UInt8 := dkwX5_find_7 ++ dktX5_find_8
def dkwX5_find_6 : List UInt8 := [180, 0, 23, 7, 182, 1, 171, 181, 0, 38, 42, 42, 180, 0, 23, 16, 8, 182, 1, 171, 181, 0, 196, 42]
abbrev dktX5_find_6 : List UInt8 := dkwX5_find_6 ++ dktX5_find_7
def dkwX5_find_5 : List UInt8 := [42, 180, 0, 23, 182, 1, 247, 64, 42, 42, 180, 0, 23, 3, 182, 1, 171, 181, 1, 34, 42, 42]
abbrev dktX5_find_5 : List UInt8 := dkwX5_find_5 ++ dktX5_find_6
def dkwX5_find_4 : List UInt8 := [42, 180, 0, 23, 182, 1, 168, 16, 6, 160, 0, 138, 42, 180, 0, 23, 182, 1, 247, 31, 148, 158, 0, 126]
abbrev dktX5_find_4 : List UInt8 := dkwX5_find_4 ++ dktX5_find_5
def dkwX5_find_3 : List UInt8 := [3, 182, 0, 141, 42, 180, 0, 23, 182, 0, 145, 42, 180, 0, 23, 17, 0, 128, 182, 0, 180, 153, 0, 150]
abbrev dktX5_find_3 : List UInt8 := dkwX5_find_3 ++ dktX5_find_4
def dkwX5_find_2 : List UInt8 := [180, 0, 71, 29, 182, 0, 170, 162, 0, 194, 42, 180, 0, 71, 29, 21, 4, 42, 180, 0, 23, 180, 0, 158]
abbrev dktX5_find_2 : List UInt8 := dkwX5_find_2 ++ dktX5_find_3
def dkwX5_find_1 : List UInt8 := [180, 0, 108, 182, 1, 234, 20, 1, 245, 64, 3, 62, 29, 5, 162, 0, 216, 3, 54, 4, 21, 4, 42]
abbrev dktX5_find_1 : List UInt8 := dkwX5_find_1 ++ dktX5_find_2
def dkwX5_find_0 : List UInt8 := [42, 182, 1, 238, 42, 9, 181, 1, 239, 42, 180, 0, 71, 182, 1, 242, 42, 180, 0, 79, 182, 1, 233, 42]
abbrev dktX5_find_0 : List UInt8 := dkwX5_find_0 ++ dktX5_find_1
theorem dksX5_find_0 : cX5_find.data.toList.drop 0 = dktX5_find_0 := by decide +kernel
theorem dksX5_find_1 : cX5_find.data.toList.drop 24 = dktX5_find_1 := dk_seg dksX5_find_0 24 rfl rfl
theorem dksX5_find_2 : cX5_find.data.toList.drop 47 = dktX5_find_2 := dk_seg dksX5_find_1 23 rfl rfl
theorem dksX5_find_3 : cX5_find.data.toList.drop 71 = dktX5_find_3 := dk_seg dksX5_find_2 24 rfl rfl
theorem dksX5_find_4 : cX5_find.data.toList.drop 95 = dktX5_find_4 := dk_seg dksX5_find_3 24 rfl rfl
theorem dksX5_find_5 : cX5_find.data.toList.drop 119 = dktX5_find_5 := dk_seg dksX5_find_4 24 rfl rfl
theorem dksX5_find_6 : cX5_find.data.toList.drop 141 = dktX5_find_6 := dk_seg dksX5_find_5 22 rfl rfl
theorem dksX5_find_7 : cX5_find.data.toList.drop 165 = dktX5_find_7 := dk_seg dksX5_find_6 24 rfl rfl
theorem dksX5_find_8 : cX5_find.data.toList.drop 187 = dktX5_find_8 := dk_seg dksX5_find_7 22 rfl rfl
theorem dksX5_find_9 : cX5_find.data.toList.drop 210 = dktX5_find_9 := dk_seg dksX5_find_8 23 rfl rfl
theorem dksX5_find_10 : cX5_find.data.toList.drop 234 = dktX5_find_10 := dk_seg dksX5_find_9 24 rfl rfl
theorem dksX5_find_11 : cX5_find.data.toList.drop 256 = dktX5_find_11 := dk_seg dksX5_find_10 22 rfl rfl
theorem dksX5_find_12 : cX5_find.data.toList.drop 279 = dktX5_find_12 := dk_seg dksX5_find_11 23 rfl rfl
theorem dksX5_find_13 : cX5_find.data.toList.drop 303 = dktX5_find_13 := dk_seg dksX5_find_12 24 rfl rfl
theorem dksX5_find_14 : cX5_find.data.toList.drop 325 = dktX5_find_14 := dk_seg dksX5_find_13 22 rfl rfl
theorem dksX5_find_15 : cX5_find.data.toList.drop 349 = dktX5_find_15 := dk_seg dksX5_find_14 24 rfl rfl
theorem dksX5_find_16 : cX5_find.data.toList.drop 373 = dktX5_find_16 := dk_seg dksX5_find_15 24 rfl rfl
theorem dksX5_find_17 : cX5_find.data.toList.drop 395 = dktX5_find_17 := dk_seg dksX5_find_16 22 rfl rfl
theorem dX5_find_0 : decode cX5_find 0 = .ok (.aload_n 0, 1) := dk_42 (dk_at dksX5_find_0 0 rfl rfl)
theorem dX5_find_1 : decode cX5_find 1 = .ok (.invokevirtual 494, 3) := dk_182 1 238 (dk_at dksX5_find_0 1 rfl rfl)
theorem dX5_find_4 : decode cX5_find 4 = .ok (.aload_n 0, 1) := dk_42 (dk_at dksX5_find_0 4 rfl rfl)
theorem dX5_find_5 : decode cX5_find 5 = .ok (.lconst 0, 1) := dk_9 (dk_at dksX5_find_0 5 rfl rfl)
theorem dX5_find_6 : decode cX5_find 6 = .ok (.putfield 495, 3) := dk_181 1 239 (dk_at dksX5_find_0 6 rfl rfl)
theorem dX5_find_9 : decode cX5_find 9 = .ok (.aload_n 0, 1) := dk_42 (dk_at dksX5_find_0 9 rfl rfl)
theorem dX5_find_10 : decode cX5_find 10 = .ok (.getfield 71, 3) := dk_180 0 71 (dk_at dksX5_find_0 10 rfl rfl)
theorem dX5_find_13 : decode cX5_find 13 = .ok (.invokevirtual 498, 3) := dk_182 1 242 (dk_at dksX5_find_0 13 rfl rfl)
theorem dX5_find_16 : decode cX5_find 16 = .ok (.aload_n 0, 1) := dk_42 (dk_at dksX5_find_0 16 rfl rfl)
theorem dX5_find_17 : decode cX5_find 17 = .ok (.getfield 79, 3) := dk_180 0 79 (dk_at dksX5_find_0 17 rfl rfl)
theorem dX5_find_20 : decode cX5_find 20 = .ok (.invokevirtual 489, 3) := dk_182 1 233 (dk_at dksX5_find_0 20 rfl rfl)
theorem dX5_find_23 : decode cX5_find 23 = .ok (.aload_n 0, 1) := dk_42 (dk_at dksX5_find_0 23 rfl rfl)
theorem dX5_find_24 : decode cX5_find 24 = .ok (.getfield 108, 3) := dk_180 0 108 (dk_at dksX5_find_1 0 rfl rfl)
theorem dX5_find_27 : decode cX5_find 27 = .ok (.invokevirtual 490, 3) := dk_182 1 234 (dk_at dksX5_find_1 3 rfl rfl)
theorem dX5_find_30 : decode cX5_find 30 = .ok (.ldc2_w 501, 3) := dk_20 1 245 (dk_at dksX5_find_1 6 rfl rfl)
theorem dX5_find_33 : decode cX5_find 33 = .ok (.lstore_n 1, 1) := dk_64 (dk_at dksX5_find_1 9 rfl rfl)
theorem dX5_find_34 : decode cX5_find 34 = .ok (.iconst 0, 1) := dk_3 (dk_at dksX5_find_1 10 rfl rfl)
theorem dX5_find_35 : decode cX5_find 35 = .ok (.istore_n 3, 1) := dk_62 (dk_at dksX5_find_1 11 rfl rfl)
theorem dX5_find_36 : decode cX5_find 36 = .ok (.iload_n 3, 1) := dk_29 (dk_at dksX5_find_1 12 rfl rfl)
theorem dX5_find_37 : decode cX5_find 37 = .ok (.iconst 2, 1) := dk_5 (dk_at dksX5_find_1 13 rfl rfl)
theorem dX5_find_38 : decode cX5_find 38 = .ok (.if_icmp .ge 216, 3) := dk_162 0 216 (dk_at dksX5_find_1 14 rfl rfl)
theorem dX5_find_41 : decode cX5_find 41 = .ok (.iconst 0, 1) := dk_3 (dk_at dksX5_find_1 17 rfl rfl)
theorem dX5_find_42 : decode cX5_find 42 = .ok (.istore 4, 2) := dk_54 4 (dk_at dksX5_find_1 18 rfl rfl)
theorem dX5_find_44 : decode cX5_find 44 = .ok (.iload 4, 2) := dk_21 4 (dk_at dksX5_find_1 20 rfl rfl)
theorem dX5_find_46 : decode cX5_find 46 = .ok (.aload_n 0, 1) := dk_42 (dk_at dksX5_find_1 22 rfl rfl)
theorem dX5_find_47 : decode cX5_find 47 = .ok (.getfield 71, 3) := dk_180 0 71 (dk_at dksX5_find_2 0 rfl rfl)
theorem dX5_find_50 : decode cX5_find 50 = .ok (.iload_n 3, 1) := dk_29 (dk_at dksX5_find_2 3 rfl rfl)
theorem dX5_find_51 : decode cX5_find 51 = .ok (.invokevirtual 170, 3) := dk_182 0 170 (dk_at dksX5_find_2 4 rfl rfl)
theorem dX5_find_54 : decode cX5_find 54 = .ok (.if_icmp .ge 194, 3) := dk_162 0 194 (dk_at dksX5_find_2 7 rfl rfl)
theorem dX5_find_57 : decode cX5_find 57 = .ok (.aload_n 0, 1) := dk_42 (dk_at dksX5_find_2 10 rfl rfl)
theorem dX5_find_58 : decode cX5_find 58 = .ok (.getfield 71, 3) := dk_180 0 71 (dk_at dksX5_find_2 11 rfl rfl)
theorem dX5_find_61 : decode cX5_find 61 = .ok (.iload_n 3, 1) := dk_29 (dk_at dksX5_find_2 14 rfl rfl)
theorem dX5_find_62 : decode cX5_find 62 = .ok (.iload 4, 2) := dk_21 4 (dk_at dksX5_find_2 15 rfl rfl)
theorem dX5_find_64 : decode cX5_find 64 = .ok (.aload_n 0, 1) := dk_42 (dk_at dksX5_find_2 17 rfl rfl)
theorem dX5_find_65 : decode cX5_find 65 = .ok (.getfield 23, 3) := dk_180 0 23 (dk_at dksX5_find_2 18 rfl rfl)
theorem dX5_find_68 : decode cX5_find 68 = .ok (.getfield 158, 3) := dk_180 0 158 (dk_at dksX5_find_2 21 rfl rfl)
theorem dX5_find_71 : decode cX5_find 71 = .ok (.iconst 0, 1) := dk_3 (dk_at dksX5_find_3 0 rfl rfl)
theorem dX5_find_72 : decode cX5_find 72 = .ok (.invokevirtual 141, 3) := dk_182 0 141 (dk_at dksX5_find_3 1 rfl rfl)
theorem dX5_find_75 : decode cX5_find 75 = .ok (.aload_n 0, 1) := dk_42 (dk_at dksX5_find_3 4 rfl rfl)
theorem dX5_find_76 : decode cX5_find 76 = .ok (.getfield 23, 3) := dk_180 0 23 (dk_at dksX5_find_3 5 rfl rfl)
theorem dX5_find_79 : decode cX5_find 79 = .ok (.invokevirtual 145, 3) := dk_182 0 145 (dk_at dksX5_find_3 8 rfl rfl)
theorem dX5_find_82 : decode cX5_find 82 = .ok (.aload_n 0, 1) := dk_42 (dk_at dksX5_find_3 11 rfl rfl)
theorem dX5_find_83 : decode cX5_find 83 = .ok (.getfield 23, 3) := dk_180 0 23 (dk_at dksX5_find_3 12 rfl rfl)
theorem dX5_find_86 : decode cX5_find 86 = .ok (.sipush 128, 3) := dk_17 0 128 (dk_at dksX5_find_3 15 rfl rfl)
theorem dX5_find_89 : decode cX5_find 89 = .ok (.invokevirtual 180, 3) := dk_182 0 180 (dk_at dksX5_find_3 18 rfl rfl)
theorem dX5_find_92 : decode cX5_find 92 = .ok (.ifCond .eq 150, 3) := dk_153 0 150 (dk_at dksX5_find_3 21 rfl rfl)
theorem dX5_find_95 : decode cX5_find 95 = .ok (.aload_n 0, 1) := dk_42 (dk_at dksX5_find_4 0 rfl rfl)
theorem dX5_find_96 : decode cX5_find 96 = .ok (.getfield 23, 3) := dk_180 0 23 (dk_at dksX5_find_4 1 rfl rfl)
theorem dX5_find_99 : decode cX5_find 99 = .ok (.invokevirtual 424, 3) := dk_182 1 168 (dk_at dksX5_find_4 4 rfl rfl)
theorem dX5_find_102 : decode cX5_find 102 = .ok (.bipush 6, 2) := dk_16 6 (dk_at dksX5_find_4 7 rfl rfl)
theorem dX5_find_104 : decode cX5_find 104 = .ok (.if_icmp .ne 138, 3) := dk_160 0 138 (dk_at dksX5_find_4 9 rfl rfl)
theorem dX5_find_107 : decode cX5_find 107 = .ok (.aload_n 0, 1) := dk_42 (dk_at dksX5_find_4 12 rfl rfl)
theorem dX5_find_108 : decode cX5_find 108 = .ok (.getfield 23, 3) := dk_180 0 23 (dk_at dksX5_find_4 13 rfl rfl)
theorem dX5_find_111 : decode cX5_find 111 = .ok (.invokevirtual 503, 3) := dk_182 1 247 (dk_at dksX5_find_4 16 rfl rfl)
theorem dX5_find_114 : decode cX5_find 114 = .ok (.lload_n 1, 1) := dk_31 (dk_at dksX5_find_4 19 rfl rfl)
theorem dX5_find_115 : decode cX5_find 115 = .ok (.lcmp, 1) := dk_148 (dk_at dksX5_find_4 20 rfl rfl)
theorem dX5_find_116 : decode cX5_find 116 = .ok (.ifCond .le 126, 3) := dk_158 0 126 (dk_at dksX5_find_4 21 rfl rfl)
theorem dX5_find_119 : decode cX5_find 119 = .ok (.aload_n 0, 1) := dk_42 (dk_at dksX5_find_5 0 rfl rfl)
theorem dX5_find_120 : decode cX5_find 120 = .ok (.getfield 23, 3) := dk_180 0 23 (dk_at dksX5_find_5 1 rfl rfl)
theorem dX5_find_123 : decode cX5_find 123 = .ok (.invokevirtual 503, 3) := dk_182 1 247 (dk_at dksX5_find_5 4 rfl rfl)
theorem dX5_find_126 : decode cX5_find 126 = .ok (.lstore_n 1, 1) := dk_64 (dk_at dksX5_find_5 7 rfl rfl)
theorem dX5_find_127 : decode cX5_find 127 = .ok (.aload_n 0, 1) := dk_42 (dk_at dksX5_find_5 8 rfl rfl)
theorem dX5_find_128 : decode cX5_find 128 = .ok (.aload_n 0, 1) := dk_42 (dk_at dksX5_find_5 9 rfl rfl)
theorem dX5_find_129 : decode cX5_find 129 = .ok (.getfield 23, 3) := dk_180 0 23 (dk_at dksX5_find_5 10 rfl rfl)
theorem dX5_find_132 : decode cX5_find 132 = .ok (.iconst 0, 1) := dk_3 (dk_at dksX5_find_5 13 rfl rfl)
theorem dX5_find_133 : decode cX5_find 133 = .ok (.invokevirtual 427, 3) := dk_182 1 171 (dk_at dksX5_find_5 14 rfl rfl)
theorem dX5_find_136 : decode cX5_find 136 = .ok (.putfield 290, 3) := dk_181 1 34 (dk_at dksX5_find_5 17 rfl rfl)
theorem dX5_find_139 : decode cX5_find 139 = .ok (.aload_n 0, 1) := dk_42 (dk_at dksX5_find_5 20 rfl rfl)
theorem dX5_find_140 : decode cX5_find 140 = .ok (.aload_n 0, 1) := dk_42 (dk_at dksX5_find_5 21 rfl rfl)
theorem dX5_find_141 : decode cX5_find 141 = .ok (.getfield 23, 3) := dk_180 0 23 (dk_at dksX5_find_6 0 rfl rfl)
theorem dX5_find_144 : decode cX5_find 144 = .ok (.iconst 4, 1) := dk_7 (dk_at dksX5_find_6 3 rfl rfl)
theorem dX5_find_145 : decode cX5_find 145 = .ok (.invokevirtual 427, 3) := dk_182 1 171 (dk_at dksX5_find_6 4 rfl rfl)
theorem dX5_find_148 : decode cX5_find 148 = .ok (.putfield 38, 3) := dk_181 0 38 (dk_at dksX5_find_6 7 rfl rfl)
theorem dX5_find_151 : decode cX5_find 151 = .ok (.aload_n 0, 1) := dk_42 (dk_at dksX5_find_6 10 rfl rfl)
theorem dX5_find_152 : decode cX5_find 152 = .ok (.aload_n 0, 1) := dk_42 (dk_at dksX5_find_6 11 rfl rfl)
theorem dX5_find_153 : decode cX5_find 153 = .ok (.getfield 23, 3) := dk_180 0 23 (dk_at dksX5_find_6 12 rfl rfl)
theorem dX5_find_156 : decode cX5_find 156 = .ok (.bipush 8, 2) := dk_16 8 (dk_at dksX5_find_6 15 rfl rfl)
theorem dX5_find_158 : decode cX5_find 158 = .ok (.invokevirtual 427, 3) := dk_182 1 171 (dk_at dksX5_find_6 17 rfl rfl)
theorem dX5_find_161 : decode cX5_find 161 = .ok (.putfield 196, 3) := dk_181 0 196 (dk_at dksX5_find_6 20 rfl rfl)
theorem dX5_find_164 : decode cX5_find 164 = .ok (.aload_n 0, 1) := dk_42 (dk_at dksX5_find_6 23 rfl rfl)
theorem dX5_find_165 : decode cX5_find 165 = .ok (.aload_n 0, 1) := dk_42 (dk_at dksX5_find_7 0 rfl rfl)
theorem dX5_find_166 : decode cX5_find 166 = .ok (.getfield 23, 3) := dk_180 0 23 (dk_at dksX5_find_7 1 rfl rfl)
theorem dX5_find_169 : decode cX5_find 169 = .ok (.bipush 12, 2) := dk_16 12 (dk_at dksX5_find_7 4 rfl rfl)
theorem dX5_find_171 : decode cX5_find 171 = .ok (.invokevirtual 427, 3) := dk_182 1 171 (dk_at dksX5_find_7 6 rfl rfl)
theorem dX5_find_174 : decode cX5_find 174 = .ok (.putfield 203, 3) := dk_181 0 203 (dk_at dksX5_find_7 9 rfl rfl)
theorem dX5_find_177 : decode cX5_find 177 = .ok (.aload_n 0, 1) := dk_42 (dk_at dksX5_find_7 12 rfl rfl)
theorem dX5_find_178 : decode cX5_find 178 = .ok (.aload_n 0, 1) := dk_42 (dk_at dksX5_find_7 13 rfl rfl)
theorem dX5_find_179 : decode cX5_find 179 = .ok (.getfield 23, 3) := dk_180 0 23 (dk_at dksX5_find_7 14 rfl rfl)
theorem dX5_find_182 : decode cX5_find 182 = .ok (.bipush 16, 2) := dk_16 16 (dk_at dksX5_find_7 17 rfl rfl)
theorem dX5_find_184 : decode cX5_find 184 = .ok (.invokevirtual 427, 3) := dk_182 1 171 (dk_at dksX5_find_7 19 rfl rfl)
theorem dX5_find_187 : decode cX5_find 187 = .ok (.putfield 299, 3) := dk_181 1 43 (dk_at dksX5_find_8 0 rfl rfl)
theorem dX5_find_190 : decode cX5_find 190 = .ok (.aload_n 0, 1) := dk_42 (dk_at dksX5_find_8 3 rfl rfl)
theorem dX5_find_191 : decode cX5_find 191 = .ok (.aload_n 0, 1) := dk_42 (dk_at dksX5_find_8 4 rfl rfl)
theorem dX5_find_192 : decode cX5_find 192 = .ok (.getfield 23, 3) := dk_180 0 23 (dk_at dksX5_find_8 5 rfl rfl)
theorem dX5_find_195 : decode cX5_find 195 = .ok (.bipush 20, 2) := dk_16 20 (dk_at dksX5_find_8 8 rfl rfl)
theorem dX5_find_197 : decode cX5_find 197 = .ok (.invokevirtual 427, 3) := dk_182 1 171 (dk_at dksX5_find_8 10 rfl rfl)
theorem dX5_find_200 : decode cX5_find 200 = .ok (.putfield 30, 3) := dk_181 0 30 (dk_at dksX5_find_8 13 rfl rfl)
theorem dX5_find_203 : decode cX5_find 203 = .ok (.aload_n 0, 1) := dk_42 (dk_at dksX5_find_8 16 rfl rfl)
theorem dX5_find_204 : decode cX5_find 204 = .ok (.aload_n 0, 1) := dk_42 (dk_at dksX5_find_8 17 rfl rfl)
theorem dX5_find_205 : decode cX5_find 205 = .ok (.getfield 23, 3) := dk_180 0 23 (dk_at dksX5_find_8 18 rfl rfl)
theorem dX5_find_208 : decode cX5_find 208 = .ok (.bipush 24, 2) := dk_16 24 (dk_at dksX5_find_8 21 rfl rfl)
theorem dX5_find_210 : decode cX5_find 210 = .ok (.invokevirtual 427, 3) := dk_182 1 171 (dk_at dksX5_find_9 0 rfl rfl)
theorem dX5_find_213 : decode cX5_find 213 = .ok (.putfield 44, 3) := dk_181 0 44 (dk_at dksX5_find_9 3 rfl rfl)
theorem dX5_find_216 : decode cX5_find 216 = .ok (.aload_n 0, 1) := dk_42 (dk_at dksX5_find_9 6 rfl rfl)
theorem dX5_find_217 : decode cX5_find 217 = .ok (.aload_n 0, 1) := dk_42 (dk_at dksX5_find_9 7 rfl rfl)
theorem dX5_find_218 : decode cX5_find 218 = .ok (.getfield 23, 3) := dk_180 0 23 (dk_at dksX5_find_9 8 rfl rfl)
theorem dX5_find_221 : decode cX5_find 221 = .ok (.bipush 28, 2) := dk_16 28 (dk_at dksX5_find_9 11 rfl rfl)
theorem dX5_find_223 : decode cX5_find 223 = .ok (.invokevirtual 427, 3) := dk_182 1 171 (dk_at dksX5_find_9 13 rfl rfl)
theorem dX5_find_226 : decode cX5_find 226 = .ok (.putfield 375, 3) := dk_181 1 119 (dk_at dksX5_find_9 16 rfl rfl)
theorem dX5_find_229 : decode cX5_find 229 = .ok (.aload_n 0, 1) := dk_42 (dk_at dksX5_find_9 19 rfl rfl)
theorem dX5_find_230 : decode cX5_find 230 = .ok (.aload_n 0, 1) := dk_42 (dk_at dksX5_find_9 20 rfl rfl)
theorem dX5_find_231 : decode cX5_find 231 = .ok (.getfield 23, 3) := dk_180 0 23 (dk_at dksX5_find_9 21 rfl rfl)
theorem dX5_find_234 : decode cX5_find 234 = .ok (.bipush 32, 2) := dk_16 32 (dk_at dksX5_find_10 0 rfl rfl)
theorem dX5_find_236 : decode cX5_find 236 = .ok (.invokevirtual 427, 3) := dk_182 1 171 (dk_at dksX5_find_10 2 rfl rfl)
theorem dX5_find_239 : decode cX5_find 239 = .ok (.putfield 372, 3) := dk_181 1 116 (dk_at dksX5_find_10 5 rfl rfl)
theorem dX5_find_242 : decode cX5_find 242 = .ok (.iinc 4 1, 3) := dk_132 4 1 (dk_at dksX5_find_10 8 rfl rfl)
theorem dX5_find_245 : decode cX5_find 245 = .ok (.goto (-201), 3) := dk_167 255 55 (dk_at dksX5_find_10 11 rfl rfl)
theorem dX5_find_248 : decode cX5_find 248 = .ok (.iinc 3 1, 3) := dk_132 3 1 (dk_at dksX5_find_10 14 rfl rfl)
theorem dX5_find_251 : decode cX5_find 251 = .ok (.goto (-215), 3) := dk_167 255 41 (dk_at dksX5_find_10 17 rfl rfl)
theorem dX5_find_254 : decode cX5_find 254 = .ok (.aload_n 0, 1) := dk_42 (dk_at dksX5_find_10 20 rfl rfl)
theorem dX5_find_255 : decode cX5_find 255 = .ok (.lload_n 1, 1) := dk_31 (dk_at dksX5_find_10 21 rfl rfl)
theorem dX5_find_256 : decode cX5_find 256 = .ok (.putfield 127, 3) := dk_181 0 127 (dk_at dksX5_find_11 0 rfl rfl)
theorem dX5_find_259 : decode cX5_find 259 = .ok (.aload_n 0, 1) := dk_42 (dk_at dksX5_find_11 3 rfl rfl)
theorem dX5_find_260 : decode cX5_find 260 = .ok (.getfield 108, 3) := dk_180 0 108 (dk_at dksX5_find_11 4 rfl rfl)
theorem dX5_find_263 : decode cX5_find 263 = .ok (.aload_n 0, 1) := dk_42 (dk_at dksX5_find_11 7 rfl rfl)
theorem dX5_find_264 : decode cX5_find 264 = .ok (.aload_n 0, 1) := dk_42 (dk_at dksX5_find_11 8 rfl rfl)
theorem dX5_find_265 : decode cX5_find 265 = .ok (.getfield 196, 3) := dk_180 0 196 (dk_at dksX5_find_11 9 rfl rfl)
theorem dX5_find_268 : decode cX5_find 268 = .ok (.aload_n 0, 1) := dk_42 (dk_at dksX5_find_11 12 rfl rfl)
theorem dX5_find_269 : decode cX5_find 269 = .ok (.getfield 203, 3) := dk_180 0 203 (dk_at dksX5_find_11 13 rfl rfl)
theorem dX5_find_272 : decode cX5_find 272 = .ok (.aload_n 0, 1) := dk_42 (dk_at dksX5_find_11 16 rfl rfl)
theorem dX5_find_273 : decode cX5_find 273 = .ok (.getfield 299, 3) := dk_180 1 43 (dk_at dksX5_find_11 17 rfl rfl)
theorem dX5_find_276 : decode cX5_find 276 = .ok (.invokevirtual 504, 3) := dk_182 1 248 (dk_at dksX5_find_11 20 rfl rfl)
theorem dX5_find_279 : decode cX5_find 279 = .ok (.invokevirtual 508, 3) := dk_182 1 252 (dk_at dksX5_find_12 0 rfl rfl)
theorem dX5_find_282 : decode cX5_find 282 = .ok (.aload_n 0, 1) := dk_42 (dk_at dksX5_find_12 3 rfl rfl)
theorem dX5_find_283 : decode cX5_find 283 = .ok (.aload_n 0, 1) := dk_42 (dk_at dksX5_find_12 4 rfl rfl)
theorem dX5_find_284 : decode cX5_find 284 = .ok (.getfield 44, 3) := dk_180 0 44 (dk_at dksX5_find_12 5 rfl rfl)
theorem dX5_find_287 : decode cX5_find 287 = .ok (.aload_n 0, 1) := dk_42 (dk_at dksX5_find_12 8 rfl rfl)
theorem dX5_find_288 : decode cX5_find 288 = .ok (.getfield 375, 3) := dk_180 1 119 (dk_at dksX5_find_12 9 rfl rfl)
theorem dX5_find_291 : decode cX5_find 291 = .ok (.aload_n 0, 1) := dk_42 (dk_at dksX5_find_12 12 rfl rfl)
theorem dX5_find_292 : decode cX5_find 292 = .ok (.getfield 372, 3) := dk_180 1 116 (dk_at dksX5_find_12 13 rfl rfl)
theorem dX5_find_295 : decode cX5_find 295 = .ok (.aload_n 0, 1) := dk_42 (dk_at dksX5_find_12 16 rfl rfl)
theorem dX5_find_296 : decode cX5_find 296 = .ok (.getfield 16, 3) := dk_180 0 16 (dk_at dksX5_find_12 17 rfl rfl)
theorem dX5_find_299 : decode cX5_find 299 = .ok (.invokevirtual 173, 3) := dk_182 0 173 (dk_at dksX5_find_12 20 rfl rfl)
theorem dX5_find_302 : decode cX5_find 302 = .ok (.aload_n 0, 1) := dk_42 (dk_at dksX5_find_12 23 rfl rfl)
theorem dX5_find_303 : decode cX5_find 303 = .ok (.getfield 79, 3) := dk_180 0 79 (dk_at dksX5_find_13 0 rfl rfl)
theorem dX5_find_306 : decode cX5_find 306 = .ok (.getfield 368, 3) := dk_180 1 112 (dk_at dksX5_find_13 3 rfl rfl)
theorem dX5_find_309 : decode cX5_find 309 = .ok (.aload_n 0, 1) := dk_42 (dk_at dksX5_find_13 6 rfl rfl)
theorem dX5_find_310 : decode cX5_find 310 = .ok (.getfield 44, 3) := dk_180 0 44 (dk_at dksX5_find_13 7 rfl rfl)
theorem dX5_find_313 : decode cX5_find 313 = .ok (.iconst 1, 1) := dk_4 (dk_at dksX5_find_13 10 rfl rfl)
theorem dX5_find_314 : decode cX5_find 314 = .ok (.bastore, 1) := dk_84 (dk_at dksX5_find_13 11 rfl rfl)
theorem dX5_find_315 : decode cX5_find 315 = .ok (.aload_n 0, 1) := dk_42 (dk_at dksX5_find_13 12 rfl rfl)
theorem dX5_find_316 : decode cX5_find 316 = .ok (.getfield 79, 3) := dk_180 0 79 (dk_at dksX5_find_13 13 rfl rfl)
theorem dX5_find_319 : decode cX5_find 319 = .ok (.getfield 86, 3) := dk_180 0 86 (dk_at dksX5_find_13 16 rfl rfl)
theorem dX5_find_322 : decode cX5_find 322 = .ok (.istore_n 3, 1) := dk_62 (dk_at dksX5_find_13 19 rfl rfl)
theorem dX5_find_323 : decode cX5_find 323 = .ok (.iload_n 3, 1) := dk_29 (dk_at dksX5_find_13 20 rfl rfl)
theorem dX5_find_324 : decode cX5_find 324 = .ok (.aload_n 0, 1) := dk_42 (dk_at dksX5_find_13 21 rfl rfl)
theorem dX5_find_325 : decode cX5_find 325 = .ok (.getfield 71, 3) := dk_180 0 71 (dk_at dksX5_find_14 0 rfl rfl)
theorem dX5_find_328 : decode cX5_find 328 = .ok (.getfield 83, 3) := dk_180 0 83 (dk_at dksX5_find_14 3 rfl rfl)
theorem dX5_find_331 : decode cX5_find 331 = .ok (.if_icmp .ge 36, 3) := dk_162 0 36 (dk_at dksX5_find_14 6 rfl rfl)
theorem dX5_find_334 : decode cX5_find 334 = .ok (.aload_n 0, 1) := dk_42 (dk_at dksX5_find_14 9 rfl rfl)
theorem dX5_find_335 : decode cX5_find 335 = .ok (.getfield 79, 3) := dk_180 0 79 (dk_at dksX5_find_14 10 rfl rfl)
theorem dX5_find_338 : decode cX5_find 338 = .ok (.getfield 363, 3) := dk_180 1 107 (dk_at dksX5_find_14 13 rfl rfl)
theorem dX5_find_341 : decode cX5_find 341 = .ok (.iload_n 3, 1) := dk_29 (dk_at dksX5_find_14 16 rfl rfl)
theorem dX5_find_342 : decode cX5_find 342 = .ok (.aload_n 0, 1) := dk_42 (dk_at dksX5_find_14 17 rfl rfl)
theorem dX5_find_343 : decode cX5_find 343 = .ok (.getfield 16, 3) := dk_180 0 16 (dk_at dksX5_find_14 18 rfl rfl)
theorem dX5_find_346 : decode cX5_find 346 = .ok (.iconst 4, 1) := dk_7 (dk_at dksX5_find_14 21 rfl rfl)
theorem dX5_find_347 : decode cX5_find 347 = .ok (.iload_n 3, 1) := dk_29 (dk_at dksX5_find_14 22 rfl rfl)
theorem dX5_find_348 : decode cX5_find 348 = .ok (.aload_n 0, 1) := dk_42 (dk_at dksX5_find_14 23 rfl rfl)
theorem dX5_find_349 : decode cX5_find 349 = .ok (.getfield 79, 3) := dk_180 0 79 (dk_at dksX5_find_15 0 rfl rfl)
theorem dX5_find_352 : decode cX5_find 352 = .ok (.getfield 86, 3) := dk_180 0 86 (dk_at dksX5_find_15 3 rfl rfl)
theorem dX5_find_355 : decode cX5_find 355 = .ok (.isub, 1) := dk_100 (dk_at dksX5_find_15 6 rfl rfl)
theorem dX5_find_356 : decode cX5_find 356 = .ok (.imul, 1) := dk_104 (dk_at dksX5_find_15 7 rfl rfl)
theorem dX5_find_357 : decode cX5_find 357 = .ok (.invokevirtual 427, 3) := dk_182 1 171 (dk_at dksX5_find_15 8 rfl rfl)
theorem dX5_find_360 : decode cX5_find 360 = .ok (.iastore, 1) := dk_79 (dk_at dksX5_find_15 11 rfl rfl)
theorem dX5_find_361 : decode cX5_find 361 = .ok (.iinc 3 1, 3) := dk_132 3 1 (dk_at dksX5_find_15 12 rfl rfl)
theorem dX5_find_364 : decode cX5_find 364 = .ok (.goto (-41), 3) := dk_167 255 215 (dk_at dksX5_find_15 15 rfl rfl)
theorem dX5_find_367 : decode cX5_find 367 = .ok (.aload_n 0, 1) := dk_42 (dk_at dksX5_find_15 18 rfl rfl)
theorem dX5_find_368 : decode cX5_find 368 = .ok (.aload_n 0, 1) := dk_42 (dk_at dksX5_find_15 19 rfl rfl)
theorem dX5_find_369 : decode cX5_find 369 = .ok (.getfield 127, 3) := dk_180 0 127 (dk_at dksX5_find_15 20 rfl rfl)
theorem dX5_find_372 : decode cX5_find 372 = .ok (.aload_n 0, 1) := dk_42 (dk_at dksX5_find_15 23 rfl rfl)
theorem dX5_find_373 : decode cX5_find 373 = .ok (.getfield 16, 3) := dk_180 0 16 (dk_at dksX5_find_16 0 rfl rfl)
theorem dX5_find_376 : decode cX5_find 376 = .ok (.invokevirtual 503, 3) := dk_182 1 247 (dk_at dksX5_find_16 3 rfl rfl)
theorem dX5_find_379 : decode cX5_find 379 = .ok (.invokestatic 511, 3) := dk_184 1 255 (dk_at dksX5_find_16 6 rfl rfl)
theorem dX5_find_382 : decode cX5_find 382 = .ok (.putfield 127, 3) := dk_181 0 127 (dk_at dksX5_find_16 9 rfl rfl)
theorem dX5_find_385 : decode cX5_find 385 = .ok (.aload_n 0, 1) := dk_42 (dk_at dksX5_find_16 12 rfl rfl)
theorem dX5_find_386 : decode cX5_find 386 = .ok (.invokevirtual 515, 3) := dk_182 2 3 (dk_at dksX5_find_16 13 rfl rfl)
theorem dX5_find_389 : decode cX5_find 389 = .ok (.aload_n 0, 1) := dk_42 (dk_at dksX5_find_16 16 rfl rfl)
theorem dX5_find_390 : decode cX5_find 390 = .ok (.aload_n 0, 1) := dk_42 (dk_at dksX5_find_16 17 rfl rfl)
theorem dX5_find_391 : decode cX5_find 391 = .ok (.getfield 38, 3) := dk_180 0 38 (dk_at dksX5_find_16 18 rfl rfl)
theorem dX5_find_394 : decode cX5_find 394 = .ok (.aload_n 0, 1) := dk_42 (dk_at dksX5_find_16 21 rfl rfl)
theorem dX5_find_395 : decode cX5_find 395 = .ok (.getfield 290, 3) := dk_180 1 34 (dk_at dksX5_find_17 0 rfl rfl)
theorem dX5_find_398 : decode cX5_find 398 = .ok (.invokevirtual 518, 3) := dk_182 2 6 (dk_at dksX5_find_17 3 rfl rfl)
theorem dX5_find_401 : decode cX5_find 401 = .ok (.aload_n 0, 1) := dk_42 (dk_at dksX5_find_17 6 rfl rfl)
theorem dX5_find_402 : decode cX5_find 402 = .ok (.iconst 5, 1) := dk_8 (dk_at dksX5_find_17 7 rfl rfl)
theorem dX5_find_403 : decode cX5_find 403 = .ok (.aload_n 0, 1) := dk_42 (dk_at dksX5_find_17 8 rfl rfl)
theorem dX5_find_404 : decode cX5_find 404 = .ok (.getfield 38, 3) := dk_180 0 38 (dk_at dksX5_find_17 9 rfl rfl)
theorem dX5_find_407 : decode cX5_find 407 = .ok (.isub, 1) := dk_100 (dk_at dksX5_find_17 12 rfl rfl)
theorem dX5_find_408 : decode cX5_find 408 = .ok (.aload_n 0, 1) := dk_42 (dk_at dksX5_find_17 13 rfl rfl)
theorem dX5_find_409 : decode cX5_find 409 = .ok (.getfield 290, 3) := dk_180 1 34 (dk_at dksX5_find_17 14 rfl rfl)
theorem dX5_find_412 : decode cX5_find 412 = .ok (.iconst 1, 1) := dk_4 (dk_at dksX5_find_17 17 rfl rfl)
theorem dX5_find_413 : decode cX5_find 413 = .ok (.iadd, 1) := dk_96 (dk_at dksX5_find_17 18 rfl rfl)
theorem dX5_find_414 : decode cX5_find 414 = .ok (.invokevirtual 518, 3) := dk_182 2 6 (dk_at dksX5_find_17 19 rfl rfl)
theorem dX5_find_417 : decode cX5_find 417 = .ok (.return_, 1) := dk_177 (dk_at dksX5_find_17 22 rfl rfl)
abbrev cX5_load : ByteArray := prog_9_method_40_code
def yX5_load : MethodName := ⟨RX5, "load", "(III)LNandHouse$Knot;"⟩
def dkwX5_load_12 : List UInt8 := [167, 255, 199, 25, 4, 176]
abbrev dktX5_load_12 : List UInt8 := dkwX5_load_12 ++ []
def dkwX5_load_11 : List UInt8 := [25, 4, 180, 1, 93, 21, 5, 46, 25, 4, 180, 1, 98, 21, 5, 46, 182, 1, 248, 83, 132, 5, 1]
abbrev dktX5_load_11 : List UInt8 := dkwX5_load_11 ++ dktX5_load_12
def dkwX5_load_10 : List UInt8 := [25, 4, 180, 1, 59, 158, 0, 45, 25, 4, 180, 1, 62, 21, 5, 42, 25, 4, 180, 1, 88, 21, 5, 46]
abbrev dktX5_load_10 : List UInt8 := dkwX5_load_10 ++ dktX5_load_11
def dkwX5_load_9 : List UInt8 := [28, 181, 1, 95, 25, 4, 29, 181, 1, 100, 3, 54, 5, 21, 5, 25, 4, 180, 1, 56, 162, 0, 53]
abbrev dktX5_load_9 : List UInt8 := dkwX5_load_9 ++ dktX5_load_10
def dkwX5_load_8 : List UInt8 := [182, 1, 171, 79, 132, 5, 1, 167, 255, 136, 25, 4, 3, 181, 1, 65, 25, 4, 27, 181, 1, 90, 25, 4]
abbrev dktX5_load_8 : List UInt8 := dkwX5_load_8 ++ dktX5_load_9
def dkwX5_load_7 : List UInt8 := [182, 1, 171, 79, 25, 4, 180, 1, 98, 21, 5, 42, 180, 0, 16, 16, 32, 16, 28, 21, 5, 104, 96]
abbrev dktX5_load_7 : List UInt8 := dkwX5_load_7 ++ dktX5_load_8
def dkwX5_load_6 : List UInt8 := [182, 1, 171, 79, 25, 4, 180, 1, 93, 21, 5, 42, 180, 0, 16, 16, 28, 16, 28, 21, 5, 104, 96]
abbrev dktX5_load_6 : List UInt8 := dkwX5_load_6 ++ dktX5_load_7
def dkwX5_load_5 : List UInt8 := [182, 2, 12, 25, 4, 180, 1, 88, 21, 5, 42, 180, 0, 16, 16, 24, 16, 28, 21, 5, 104, 96]
abbrev dktX5_load_5 : List UInt8 := dkwX5_load_5 ++ dktX5_load_6
def dkwX5_load_4 : List UInt8 := [21, 5, 104, 96, 182, 1, 174, 42, 180, 0, 16, 16, 16, 16, 28, 21, 5, 104, 96, 182, 1, 174, 1]
abbrev dktX5_load_4 : List UInt8 := dkwX5_load_4 ++ dktX5_load_5
def dkwX5_load_3 : List UInt8 := [54, 5, 21, 5, 25, 4, 180, 1, 56, 162, 0, 116, 25, 4, 21, 5, 42, 180, 0, 16, 16, 8, 16, 28]
abbrev dktX5_load_3 : List UInt8 := dkwX5_load_3 ++ dktX5_load_4
def dkwX5_load_2 : List UInt8 := [3, 182, 1, 171, 182, 2, 9, 58, 4, 25, 4, 42, 180, 0, 16, 7, 182, 1, 171, 181, 1, 56, 3]
abbrev dktX5_load_2 : List UInt8 := dkwX5_load_2 ++ dktX5_load_3
def dkwX5_load_1 : List UInt8 := [184, 1, 255, 181, 0, 127, 42, 180, 0, 79, 180, 1, 112, 27, 4, 84, 42, 180, 0, 108, 42, 180, 0, 16]
abbrev dktX5_load_1 : List UInt8 := dkwX5_load_1 ++ dktX5_load_2
def dkwX5_load_0 : List UInt8 := [42, 27, 28, 29, 42, 180, 0, 16, 182, 0, 173, 42, 42, 180, 0, 127, 42, 180, 0, 16, 182, 1, 247]
abbrev dktX5_load_0 : List UInt8 := dkwX5_load_0 ++ dktX5_load_1
theorem dksX5_load_0 : cX5_load.data.toList.drop 0 = dktX5_load_0 := by decide +kernel
theorem dksX5_load_1 : cX5_load.data.toList.drop 23 = dktX5_load_1 := dk_seg dksX5_load_0 23 rfl rfl
theorem dksX5_load_2 : cX5_load.data.toList.drop 47 = dktX5_load_2 := dk_seg dksX5_load_1 24 rfl rfl
theorem dksX5_load_3 : cX5_load.data.toList.drop 70 = dktX5_load_3 := dk_seg dksX5_load_2 23 rfl rfl
theorem dksX5_load_4 : cX5_load.data.toList.drop 94 = dktX5_load_4 := dk_seg dksX5_load_3 24 rfl rfl
theorem dksX5_load_5 : cX5_load.data.toList.drop 117 = dktX5_load_5 := dk_seg dksX5_load_4 23 rfl rfl
theorem dksX5_load_6 : cX5_load.data.toList.drop 139 = dktX5_load_6 := dk_seg dksX5_load_5 22 rfl rfl
theorem dksX5_load_7 : cX5_load.data.toList.drop 162 = dktX5_load_7 := dk_seg dksX5_load_6 23 rfl rfl
theorem dksX5_load_8 : cX5_load.data.toList.drop 185 = dktX5_load_8 := dk_seg dksX5_load_7 23 rfl rfl
theorem dksX5_load_9 : cX5_load.data.toList.drop 209 = dktX5_load_9 := dk_seg dksX5_load_8 24 rfl rfl
theorem dksX5_load_10 : cX5_load.data.toList.drop 232 = dktX5_load_10 := dk_seg dksX5_load_9 23 rfl rfl
theorem dksX5_load_11 : cX5_load.data.toList.drop 256 = dktX5_load_11 := dk_seg dksX5_load_10 24 rfl rfl
theorem dksX5_load_12 : cX5_load.data.toList.drop 279 = dktX5_load_12 := dk_seg dksX5_load_11 23 rfl rfl
theorem dX5_load_0 : decode cX5_load 0 = .ok (.aload_n 0, 1) := dk_42 (dk_at dksX5_load_0 0 rfl rfl)
theorem dX5_load_1 : decode cX5_load 1 = .ok (.iload_n 1, 1) := dk_27 (dk_at dksX5_load_0 1 rfl rfl)
theorem dX5_load_2 : decode cX5_load 2 = .ok (.iload_n 2, 1) := dk_28 (dk_at dksX5_load_0 2 rfl rfl)
theorem dX5_load_3 : decode cX5_load 3 = .ok (.iload_n 3, 1) := dk_29 (dk_at dksX5_load_0 3 rfl rfl)
theorem dX5_load_4 : decode cX5_load 4 = .ok (.aload_n 0, 1) := dk_42 (dk_at dksX5_load_0 4 rfl rfl)
theorem dX5_load_5 : decode cX5_load 5 = .ok (.getfield 16, 3) := dk_180 0 16 (dk_at dksX5_load_0 5 rfl rfl)
theorem dX5_load_8 : decode cX5_load 8 = .ok (.invokevirtual 173, 3) := dk_182 0 173 (dk_at dksX5_load_0 8 rfl rfl)
theorem dX5_load_11 : decode cX5_load 11 = .ok (.aload_n 0, 1) := dk_42 (dk_at dksX5_load_0 11 rfl rfl)
theorem dX5_load_12 : decode cX5_load 12 = .ok (.aload_n 0, 1) := dk_42 (dk_at dksX5_load_0 12 rfl rfl)
theorem dX5_load_13 : decode cX5_load 13 = .ok (.getfield 127, 3) := dk_180 0 127 (dk_at dksX5_load_0 13 rfl rfl)
theorem dX5_load_16 : decode cX5_load 16 = .ok (.aload_n 0, 1) := dk_42 (dk_at dksX5_load_0 16 rfl rfl)
theorem dX5_load_17 : decode cX5_load 17 = .ok (.getfield 16, 3) := dk_180 0 16 (dk_at dksX5_load_0 17 rfl rfl)
theorem dX5_load_20 : decode cX5_load 20 = .ok (.invokevirtual 503, 3) := dk_182 1 247 (dk_at dksX5_load_0 20 rfl rfl)
theorem dX5_load_23 : decode cX5_load 23 = .ok (.invokestatic 511, 3) := dk_184 1 255 (dk_at dksX5_load_1 0 rfl rfl)
theorem dX5_load_26 : decode cX5_load 26 = .ok (.putfield 127, 3) := dk_181 0 127 (dk_at dksX5_load_1 3 rfl rfl)
theorem dX5_load_29 : decode cX5_load 29 = .ok (.aload_n 0, 1) := dk_42 (dk_at dksX5_load_1 6 rfl rfl)
theorem dX5_load_30 : decode cX5_load 30 = .ok (.getfield 79, 3) := dk_180 0 79 (dk_at dksX5_load_1 7 rfl rfl)
theorem dX5_load_33 : decode cX5_load 33 = .ok (.getfield 368, 3) := dk_180 1 112 (dk_at dksX5_load_1 10 rfl rfl)
theorem dX5_load_36 : decode cX5_load 36 = .ok (.iload_n 1, 1) := dk_27 (dk_at dksX5_load_1 13 rfl rfl)
theorem dX5_load_37 : decode cX5_load 37 = .ok (.iconst 1, 1) := dk_4 (dk_at dksX5_load_1 14 rfl rfl)
theorem dX5_load_38 : decode cX5_load 38 = .ok (.bastore, 1) := dk_84 (dk_at dksX5_load_1 15 rfl rfl)
theorem dX5_load_39 : decode cX5_load 39 = .ok (.aload_n 0, 1) := dk_42 (dk_at dksX5_load_1 16 rfl rfl)
theorem dX5_load_40 : decode cX5_load 40 = .ok (.getfield 108, 3) := dk_180 0 108 (dk_at dksX5_load_1 17 rfl rfl)
theorem dX5_load_43 : decode cX5_load 43 = .ok (.aload_n 0, 1) := dk_42 (dk_at dksX5_load_1 20 rfl rfl)
theorem dX5_load_44 : decode cX5_load 44 = .ok (.getfield 16, 3) := dk_180 0 16 (dk_at dksX5_load_1 21 rfl rfl)
theorem dX5_load_47 : decode cX5_load 47 = .ok (.iconst 0, 1) := dk_3 (dk_at dksX5_load_2 0 rfl rfl)
theorem dX5_load_48 : decode cX5_load 48 = .ok (.invokevirtual 427, 3) := dk_182 1 171 (dk_at dksX5_load_2 1 rfl rfl)
theorem dX5_load_51 : decode cX5_load 51 = .ok (.invokevirtual 521, 3) := dk_182 2 9 (dk_at dksX5_load_2 4 rfl rfl)
theorem dX5_load_54 : decode cX5_load 54 = .ok (.astore 4, 2) := dk_58 4 (dk_at dksX5_load_2 7 rfl rfl)
theorem dX5_load_56 : decode cX5_load 56 = .ok (.aload 4, 2) := dk_25 4 (dk_at dksX5_load_2 9 rfl rfl)
theorem dX5_load_58 : decode cX5_load 58 = .ok (.aload_n 0, 1) := dk_42 (dk_at dksX5_load_2 11 rfl rfl)
theorem dX5_load_59 : decode cX5_load 59 = .ok (.getfield 16, 3) := dk_180 0 16 (dk_at dksX5_load_2 12 rfl rfl)
theorem dX5_load_62 : decode cX5_load 62 = .ok (.iconst 4, 1) := dk_7 (dk_at dksX5_load_2 15 rfl rfl)
theorem dX5_load_63 : decode cX5_load 63 = .ok (.invokevirtual 427, 3) := dk_182 1 171 (dk_at dksX5_load_2 16 rfl rfl)
theorem dX5_load_66 : decode cX5_load 66 = .ok (.putfield 312, 3) := dk_181 1 56 (dk_at dksX5_load_2 19 rfl rfl)
theorem dX5_load_69 : decode cX5_load 69 = .ok (.iconst 0, 1) := dk_3 (dk_at dksX5_load_2 22 rfl rfl)
theorem dX5_load_70 : decode cX5_load 70 = .ok (.istore 5, 2) := dk_54 5 (dk_at dksX5_load_3 0 rfl rfl)
theorem dX5_load_72 : decode cX5_load 72 = .ok (.iload 5, 2) := dk_21 5 (dk_at dksX5_load_3 2 rfl rfl)
theorem dX5_load_74 : decode cX5_load 74 = .ok (.aload 4, 2) := dk_25 4 (dk_at dksX5_load_3 4 rfl rfl)
theorem dX5_load_76 : decode cX5_load 76 = .ok (.getfield 312, 3) := dk_180 1 56 (dk_at dksX5_load_3 6 rfl rfl)
theorem dX5_load_79 : decode cX5_load 79 = .ok (.if_icmp .ge 116, 3) := dk_162 0 116 (dk_at dksX5_load_3 9 rfl rfl)
theorem dX5_load_82 : decode cX5_load 82 = .ok (.aload 4, 2) := dk_25 4 (dk_at dksX5_load_3 12 rfl rfl)
theorem dX5_load_84 : decode cX5_load 84 = .ok (.iload 5, 2) := dk_21 5 (dk_at dksX5_load_3 14 rfl rfl)
theorem dX5_load_86 : decode cX5_load 86 = .ok (.aload_n 0, 1) := dk_42 (dk_at dksX5_load_3 16 rfl rfl)
theorem dX5_load_87 : decode cX5_load 87 = .ok (.getfield 16, 3) := dk_180 0 16 (dk_at dksX5_load_3 17 rfl rfl)
theorem dX5_load_90 : decode cX5_load 90 = .ok (.bipush 8, 2) := dk_16 8 (dk_at dksX5_load_3 20 rfl rfl)
theorem dX5_load_92 : decode cX5_load 92 = .ok (.bipush 28, 2) := dk_16 28 (dk_at dksX5_load_3 22 rfl rfl)
theorem dX5_load_94 : decode cX5_load 94 = .ok (.iload 5, 2) := dk_21 5 (dk_at dksX5_load_4 0 rfl rfl)
theorem dX5_load_96 : decode cX5_load 96 = .ok (.imul, 1) := dk_104 (dk_at dksX5_load_4 2 rfl rfl)
theorem dX5_load_97 : decode cX5_load 97 = .ok (.iadd, 1) := dk_96 (dk_at dksX5_load_4 3 rfl rfl)
theorem dX5_load_98 : decode cX5_load 98 = .ok (.invokevirtual 430, 3) := dk_182 1 174 (dk_at dksX5_load_4 4 rfl rfl)
theorem dX5_load_101 : decode cX5_load 101 = .ok (.aload_n 0, 1) := dk_42 (dk_at dksX5_load_4 7 rfl rfl)
theorem dX5_load_102 : decode cX5_load 102 = .ok (.getfield 16, 3) := dk_180 0 16 (dk_at dksX5_load_4 8 rfl rfl)
theorem dX5_load_105 : decode cX5_load 105 = .ok (.bipush 16, 2) := dk_16 16 (dk_at dksX5_load_4 11 rfl rfl)
theorem dX5_load_107 : decode cX5_load 107 = .ok (.bipush 28, 2) := dk_16 28 (dk_at dksX5_load_4 13 rfl rfl)
theorem dX5_load_109 : decode cX5_load 109 = .ok (.iload 5, 2) := dk_21 5 (dk_at dksX5_load_4 15 rfl rfl)
theorem dX5_load_111 : decode cX5_load 111 = .ok (.imul, 1) := dk_104 (dk_at dksX5_load_4 17 rfl rfl)
theorem dX5_load_112 : decode cX5_load 112 = .ok (.iadd, 1) := dk_96 (dk_at dksX5_load_4 18 rfl rfl)
theorem dX5_load_113 : decode cX5_load 113 = .ok (.invokevirtual 430, 3) := dk_182 1 174 (dk_at dksX5_load_4 19 rfl rfl)
theorem dX5_load_116 : decode cX5_load 116 = .ok (.aconst_null, 1) := dk_1 (dk_at dksX5_load_4 22 rfl rfl)
theorem dX5_load_117 : decode cX5_load 117 = .ok (.invokevirtual 524, 3) := dk_182 2 12 (dk_at dksX5_load_5 0 rfl rfl)
theorem dX5_load_120 : decode cX5_load 120 = .ok (.aload 4, 2) := dk_25 4 (dk_at dksX5_load_5 3 rfl rfl)
theorem dX5_load_122 : decode cX5_load 122 = .ok (.getfield 344, 3) := dk_180 1 88 (dk_at dksX5_load_5 5 rfl rfl)
theorem dX5_load_125 : decode cX5_load 125 = .ok (.iload 5, 2) := dk_21 5 (dk_at dksX5_load_5 8 rfl rfl)
theorem dX5_load_127 : decode cX5_load 127 = .ok (.aload_n 0, 1) := dk_42 (dk_at dksX5_load_5 10 rfl rfl)
theorem dX5_load_128 : decode cX5_load 128 = .ok (.getfield 16, 3) := dk_180 0 16 (dk_at dksX5_load_5 11 rfl rfl)
theorem dX5_load_131 : decode cX5_load 131 = .ok (.bipush 24, 2) := dk_16 24 (dk_at dksX5_load_5 14 rfl rfl)
theorem dX5_load_133 : decode cX5_load 133 = .ok (.bipush 28, 2) := dk_16 28 (dk_at dksX5_load_5 16 rfl rfl)
theorem dX5_load_135 : decode cX5_load 135 = .ok (.iload 5, 2) := dk_21 5 (dk_at dksX5_load_5 18 rfl rfl)
theorem dX5_load_137 : decode cX5_load 137 = .ok (.imul, 1) := dk_104 (dk_at dksX5_load_5 20 rfl rfl)
theorem dX5_load_138 : decode cX5_load 138 = .ok (.iadd, 1) := dk_96 (dk_at dksX5_load_5 21 rfl rfl)
theorem dX5_load_139 : decode cX5_load 139 = .ok (.invokevirtual 427, 3) := dk_182 1 171 (dk_at dksX5_load_6 0 rfl rfl)
theorem dX5_load_142 : decode cX5_load 142 = .ok (.iastore, 1) := dk_79 (dk_at dksX5_load_6 3 rfl rfl)
theorem dX5_load_143 : decode cX5_load 143 = .ok (.aload 4, 2) := dk_25 4 (dk_at dksX5_load_6 4 rfl rfl)
theorem dX5_load_145 : decode cX5_load 145 = .ok (.getfield 349, 3) := dk_180 1 93 (dk_at dksX5_load_6 6 rfl rfl)
theorem dX5_load_148 : decode cX5_load 148 = .ok (.iload 5, 2) := dk_21 5 (dk_at dksX5_load_6 9 rfl rfl)
theorem dX5_load_150 : decode cX5_load 150 = .ok (.aload_n 0, 1) := dk_42 (dk_at dksX5_load_6 11 rfl rfl)
theorem dX5_load_151 : decode cX5_load 151 = .ok (.getfield 16, 3) := dk_180 0 16 (dk_at dksX5_load_6 12 rfl rfl)
theorem dX5_load_154 : decode cX5_load 154 = .ok (.bipush 28, 2) := dk_16 28 (dk_at dksX5_load_6 15 rfl rfl)
theorem dX5_load_156 : decode cX5_load 156 = .ok (.bipush 28, 2) := dk_16 28 (dk_at dksX5_load_6 17 rfl rfl)
theorem dX5_load_158 : decode cX5_load 158 = .ok (.iload 5, 2) := dk_21 5 (dk_at dksX5_load_6 19 rfl rfl)
theorem dX5_load_160 : decode cX5_load 160 = .ok (.imul, 1) := dk_104 (dk_at dksX5_load_6 21 rfl rfl)
theorem dX5_load_161 : decode cX5_load 161 = .ok (.iadd, 1) := dk_96 (dk_at dksX5_load_6 22 rfl rfl)
theorem dX5_load_162 : decode cX5_load 162 = .ok (.invokevirtual 427, 3) := dk_182 1 171 (dk_at dksX5_load_7 0 rfl rfl)
theorem dX5_load_165 : decode cX5_load 165 = .ok (.iastore, 1) := dk_79 (dk_at dksX5_load_7 3 rfl rfl)
theorem dX5_load_166 : decode cX5_load 166 = .ok (.aload 4, 2) := dk_25 4 (dk_at dksX5_load_7 4 rfl rfl)
theorem dX5_load_168 : decode cX5_load 168 = .ok (.getfield 354, 3) := dk_180 1 98 (dk_at dksX5_load_7 6 rfl rfl)
theorem dX5_load_171 : decode cX5_load 171 = .ok (.iload 5, 2) := dk_21 5 (dk_at dksX5_load_7 9 rfl rfl)
theorem dX5_load_173 : decode cX5_load 173 = .ok (.aload_n 0, 1) := dk_42 (dk_at dksX5_load_7 11 rfl rfl)
theorem dX5_load_174 : decode cX5_load 174 = .ok (.getfield 16, 3) := dk_180 0 16 (dk_at dksX5_load_7 12 rfl rfl)
theorem dX5_load_177 : decode cX5_load 177 = .ok (.bipush 32, 2) := dk_16 32 (dk_at dksX5_load_7 15 rfl rfl)
theorem dX5_load_179 : decode cX5_load 179 = .ok (.bipush 28, 2) := dk_16 28 (dk_at dksX5_load_7 17 rfl rfl)
theorem dX5_load_181 : decode cX5_load 181 = .ok (.iload 5, 2) := dk_21 5 (dk_at dksX5_load_7 19 rfl rfl)
theorem dX5_load_183 : decode cX5_load 183 = .ok (.imul, 1) := dk_104 (dk_at dksX5_load_7 21 rfl rfl)
theorem dX5_load_184 : decode cX5_load 184 = .ok (.iadd, 1) := dk_96 (dk_at dksX5_load_7 22 rfl rfl)
theorem dX5_load_185 : decode cX5_load 185 = .ok (.invokevirtual 427, 3) := dk_182 1 171 (dk_at dksX5_load_8 0 rfl rfl)
theorem dX5_load_188 : decode cX5_load 188 = .ok (.iastore, 1) := dk_79 (dk_at dksX5_load_8 3 rfl rfl)
theorem dX5_load_189 : decode cX5_load 189 = .ok (.iinc 5 1, 3) := dk_132 5 1 (dk_at dksX5_load_8 4 rfl rfl)
theorem dX5_load_192 : decode cX5_load 192 = .ok (.goto (-120), 3) := dk_167 255 136 (dk_at dksX5_load_8 7 rfl rfl)
theorem dX5_load_195 : decode cX5_load 195 = .ok (.aload 4, 2) := dk_25 4 (dk_at dksX5_load_8 10 rfl rfl)
theorem dX5_load_197 : decode cX5_load 197 = .ok (.iconst 0, 1) := dk_3 (dk_at dksX5_load_8 12 rfl rfl)
theorem dX5_load_198 : decode cX5_load 198 = .ok (.putfield 321, 3) := dk_181 1 65 (dk_at dksX5_load_8 13 rfl rfl)
theorem dX5_load_201 : decode cX5_load 201 = .ok (.aload 4, 2) := dk_25 4 (dk_at dksX5_load_8 16 rfl rfl)
theorem dX5_load_203 : decode cX5_load 203 = .ok (.iload_n 1, 1) := dk_27 (dk_at dksX5_load_8 18 rfl rfl)
theorem dX5_load_204 : decode cX5_load 204 = .ok (.putfield 346, 3) := dk_181 1 90 (dk_at dksX5_load_8 19 rfl rfl)
theorem dX5_load_207 : decode cX5_load 207 = .ok (.aload 4, 2) := dk_25 4 (dk_at dksX5_load_8 22 rfl rfl)
theorem dX5_load_209 : decode cX5_load 209 = .ok (.iload_n 2, 1) := dk_28 (dk_at dksX5_load_9 0 rfl rfl)
theorem dX5_load_210 : decode cX5_load 210 = .ok (.putfield 351, 3) := dk_181 1 95 (dk_at dksX5_load_9 1 rfl rfl)
theorem dX5_load_213 : decode cX5_load 213 = .ok (.aload 4, 2) := dk_25 4 (dk_at dksX5_load_9 4 rfl rfl)
theorem dX5_load_215 : decode cX5_load 215 = .ok (.iload_n 3, 1) := dk_29 (dk_at dksX5_load_9 6 rfl rfl)
theorem dX5_load_216 : decode cX5_load 216 = .ok (.putfield 356, 3) := dk_181 1 100 (dk_at dksX5_load_9 7 rfl rfl)
theorem dX5_load_219 : decode cX5_load 219 = .ok (.iconst 0, 1) := dk_3 (dk_at dksX5_load_9 10 rfl rfl)
theorem dX5_load_220 : decode cX5_load 220 = .ok (.istore 5, 2) := dk_54 5 (dk_at dksX5_load_9 11 rfl rfl)
theorem dX5_load_222 : decode cX5_load 222 = .ok (.iload 5, 2) := dk_21 5 (dk_at dksX5_load_9 13 rfl rfl)
theorem dX5_load_224 : decode cX5_load 224 = .ok (.aload 4, 2) := dk_25 4 (dk_at dksX5_load_9 15 rfl rfl)
theorem dX5_load_226 : decode cX5_load 226 = .ok (.getfield 312, 3) := dk_180 1 56 (dk_at dksX5_load_9 17 rfl rfl)
theorem dX5_load_229 : decode cX5_load 229 = .ok (.if_icmp .ge 53, 3) := dk_162 0 53 (dk_at dksX5_load_9 20 rfl rfl)
theorem dX5_load_232 : decode cX5_load 232 = .ok (.aload 4, 2) := dk_25 4 (dk_at dksX5_load_10 0 rfl rfl)
theorem dX5_load_234 : decode cX5_load 234 = .ok (.getfield 315, 3) := dk_180 1 59 (dk_at dksX5_load_10 2 rfl rfl)
theorem dX5_load_237 : decode cX5_load 237 = .ok (.ifCond .le 45, 3) := dk_158 0 45 (dk_at dksX5_load_10 5 rfl rfl)
theorem dX5_load_240 : decode cX5_load 240 = .ok (.aload 4, 2) := dk_25 4 (dk_at dksX5_load_10 8 rfl rfl)
theorem dX5_load_242 : decode cX5_load 242 = .ok (.getfield 318, 3) := dk_180 1 62 (dk_at dksX5_load_10 10 rfl rfl)
theorem dX5_load_245 : decode cX5_load 245 = .ok (.iload 5, 2) := dk_21 5 (dk_at dksX5_load_10 13 rfl rfl)
theorem dX5_load_247 : decode cX5_load 247 = .ok (.aload_n 0, 1) := dk_42 (dk_at dksX5_load_10 15 rfl rfl)
theorem dX5_load_248 : decode cX5_load 248 = .ok (.aload 4, 2) := dk_25 4 (dk_at dksX5_load_10 16 rfl rfl)
theorem dX5_load_250 : decode cX5_load 250 = .ok (.getfield 344, 3) := dk_180 1 88 (dk_at dksX5_load_10 18 rfl rfl)
theorem dX5_load_253 : decode cX5_load 253 = .ok (.iload 5, 2) := dk_21 5 (dk_at dksX5_load_10 21 rfl rfl)
theorem dX5_load_255 : decode cX5_load 255 = .ok (.iaload, 1) := dk_46 (dk_at dksX5_load_10 23 rfl rfl)
theorem dX5_load_256 : decode cX5_load 256 = .ok (.aload 4, 2) := dk_25 4 (dk_at dksX5_load_11 0 rfl rfl)
theorem dX5_load_258 : decode cX5_load 258 = .ok (.getfield 349, 3) := dk_180 1 93 (dk_at dksX5_load_11 2 rfl rfl)
theorem dX5_load_261 : decode cX5_load 261 = .ok (.iload 5, 2) := dk_21 5 (dk_at dksX5_load_11 5 rfl rfl)
theorem dX5_load_263 : decode cX5_load 263 = .ok (.iaload, 1) := dk_46 (dk_at dksX5_load_11 7 rfl rfl)
theorem dX5_load_264 : decode cX5_load 264 = .ok (.aload 4, 2) := dk_25 4 (dk_at dksX5_load_11 8 rfl rfl)
theorem dX5_load_266 : decode cX5_load 266 = .ok (.getfield 354, 3) := dk_180 1 98 (dk_at dksX5_load_11 10 rfl rfl)
theorem dX5_load_269 : decode cX5_load 269 = .ok (.iload 5, 2) := dk_21 5 (dk_at dksX5_load_11 13 rfl rfl)
theorem dX5_load_271 : decode cX5_load 271 = .ok (.iaload, 1) := dk_46 (dk_at dksX5_load_11 15 rfl rfl)
theorem dX5_load_272 : decode cX5_load 272 = .ok (.invokevirtual 504, 3) := dk_182 1 248 (dk_at dksX5_load_11 16 rfl rfl)
theorem dX5_load_275 : decode cX5_load 275 = .ok (.aastore, 1) := dk_83 (dk_at dksX5_load_11 19 rfl rfl)
theorem dX5_load_276 : decode cX5_load 276 = .ok (.iinc 5 1, 3) := dk_132 5 1 (dk_at dksX5_load_11 20 rfl rfl)
theorem dX5_load_279 : decode cX5_load 279 = .ok (.goto (-57), 3) := dk_167 255 199 (dk_at dksX5_load_12 0 rfl rfl)
theorem dX5_load_282 : decode cX5_load 282 = .ok (.aload 4, 2) := dk_25 4 (dk_at dksX5_load_12 3 rfl rfl)
theorem dX5_load_284 : decode cX5_load 284 = .ok (.areturn, 1) := dk_176 (dk_at dksX5_load_12 5 rfl rfl)
abbrev cX5_readOrphans : ByteArray := prog_9_method_39_code
def yX5_readOrphans : MethodName := ⟨RX5, "readOrphans", "()V"⟩
def dkwX5_readOrphans_3 : List UInt8 := [132, 1, 1, 167, 255, 226, 177]
abbrev dktX5_readOrphans_3 : List UInt8 := dkwX5_readOrphans_3 ++ []
def dkwX5_readOrphans_2 : List UInt8 := [162, 0, 28, 42, 180, 0, 47, 27, 42, 180, 0, 23, 16, 8, 7, 27, 104, 96, 182, 1, 171, 79]
abbrev dktX5_readOrphans_2 : List UInt8 := dkwX5_readOrphans_2 ++ dktX5_readOrphans_3
def dkwX5_readOrphans_1 : List UInt8 := [182, 0, 145, 42, 42, 180, 0, 23, 7, 182, 1, 171, 181, 1, 37, 3, 60, 27, 42, 180, 1, 37]
abbrev dktX5_readOrphans_1 : List UInt8 := dkwX5_readOrphans_1 ++ dktX5_readOrphans_2
def dkwX5_readOrphans_0 : List UInt8 := [42, 180, 0, 71, 42, 180, 0, 38, 3, 42, 180, 0, 23, 180, 0, 158, 3, 182, 0, 141, 42, 180, 0, 23]
abbrev dktX5_readOrphans_0 : List UInt8 := dkwX5_readOrphans_0 ++ dktX5_readOrphans_1
theorem dksX5_readOrphans_0 : cX5_readOrphans.data.toList.drop 0 = dktX5_readOrphans_0 := by decide +kernel
theorem dksX5_readOrphans_1 : cX5_readOrphans.data.toList.drop 24 = dktX5_readOrphans_1 := dk_seg dksX5_readOrphans_0 24 rfl rfl
theorem dksX5_readOrphans_2 : cX5_readOrphans.data.toList.drop 46 = dktX5_readOrphans_2 := dk_seg dksX5_readOrphans_1 22 rfl rfl
theorem dksX5_readOrphans_3 : cX5_readOrphans.data.toList.drop 68 = dktX5_readOrphans_3 := dk_seg dksX5_readOrphans_2 22 rfl rfl
theorem dX5_readOrphans_0 : decode cX5_readOrphans 0 = .ok (.aload_n 0, 1) := dk_42 (dk_at dksX5_readOrphans_0 0 rfl rfl)
theorem dX5_readOrphans_1 : decode cX5_readOrphans 1 = .ok (.getfield 71, 3) := dk_180 0 71 (dk_at dksX5_readOrphans_0 1 rfl rfl)
theorem dX5_readOrphans_4 : decode cX5_readOrphans 4 = .ok (.aload_n 0, 1) := dk_42 (dk_at dksX5_readOrphans_0 4 rfl rfl)
theorem dX5_readOrphans_5 : decode cX5_readOrphans 5 = .ok (.getfield 38, 3) := dk_180 0 38 (dk_at dksX5_readOrphans_0 5 rfl rfl)
theorem dX5_readOrphans_8 : decode cX5_readOrphans 8 = .ok (.iconst 0, 1) := dk_3 (dk_at dksX5_readOrphans_0 8 rfl rfl)
theorem dX5_readOrphans_9 : decode cX5_readOrphans 9 = .ok (.aload_n 0, 1) := dk_42 (dk_at dksX5_readOrphans_0 9 rfl rfl)
theorem dX5_readOrphans_10 : decode cX5_readOrphans 10 = .ok (.getfield 23, 3) := dk_180 0 23 (dk_at dksX5_readOrphans_0 10 rfl rfl)
theorem dX5_readOrphans_13 : decode cX5_readOrphans 13 = .ok (.getfield 158, 3) := dk_180 0 158 (dk_at dksX5_readOrphans_0 13 rfl rfl)
theorem dX5_readOrphans_16 : decode cX5_readOrphans 16 = .ok (.iconst 0, 1) := dk_3 (dk_at dksX5_readOrphans_0 16 rfl rfl)
theorem dX5_readOrphans_17 : decode cX5_readOrphans 17 = .ok (.invokevirtual 141, 3) := dk_182 0 141 (dk_at dksX5_readOrphans_0 17 rfl rfl)
theorem dX5_readOrphans_20 : decode cX5_readOrphans 20 = .ok (.aload_n 0, 1) := dk_42 (dk_at dksX5_readOrphans_0 20 rfl rfl)
theorem dX5_readOrphans_21 : decode cX5_readOrphans 21 = .ok (.getfield 23, 3) := dk_180 0 23 (dk_at dksX5_readOrphans_0 21 rfl rfl)
theorem dX5_readOrphans_24 : decode cX5_readOrphans 24 = .ok (.invokevirtual 145, 3) := dk_182 0 145 (dk_at dksX5_readOrphans_1 0 rfl rfl)
theorem dX5_readOrphans_27 : decode cX5_readOrphans 27 = .ok (.aload_n 0, 1) := dk_42 (dk_at dksX5_readOrphans_1 3 rfl rfl)
theorem dX5_readOrphans_28 : decode cX5_readOrphans 28 = .ok (.aload_n 0, 1) := dk_42 (dk_at dksX5_readOrphans_1 4 rfl rfl)
theorem dX5_readOrphans_29 : decode cX5_readOrphans 29 = .ok (.getfield 23, 3) := dk_180 0 23 (dk_at dksX5_readOrphans_1 5 rfl rfl)
theorem dX5_readOrphans_32 : decode cX5_readOrphans 32 = .ok (.iconst 4, 1) := dk_7 (dk_at dksX5_readOrphans_1 8 rfl rfl)
theorem dX5_readOrphans_33 : decode cX5_readOrphans 33 = .ok (.invokevirtual 427, 3) := dk_182 1 171 (dk_at dksX5_readOrphans_1 9 rfl rfl)
theorem dX5_readOrphans_36 : decode cX5_readOrphans 36 = .ok (.putfield 293, 3) := dk_181 1 37 (dk_at dksX5_readOrphans_1 12 rfl rfl)
theorem dX5_readOrphans_39 : decode cX5_readOrphans 39 = .ok (.iconst 0, 1) := dk_3 (dk_at dksX5_readOrphans_1 15 rfl rfl)
theorem dX5_readOrphans_40 : decode cX5_readOrphans 40 = .ok (.istore_n 1, 1) := dk_60 (dk_at dksX5_readOrphans_1 16 rfl rfl)
theorem dX5_readOrphans_41 : decode cX5_readOrphans 41 = .ok (.iload_n 1, 1) := dk_27 (dk_at dksX5_readOrphans_1 17 rfl rfl)
theorem dX5_readOrphans_42 : decode cX5_readOrphans 42 = .ok (.aload_n 0, 1) := dk_42 (dk_at dksX5_readOrphans_1 18 rfl rfl)
theorem dX5_readOrphans_43 : decode cX5_readOrphans 43 = .ok (.getfield 293, 3) := dk_180 1 37 (dk_at dksX5_readOrphans_1 19 rfl rfl)
theorem dX5_readOrphans_46 : decode cX5_readOrphans 46 = .ok (.if_icmp .ge 28, 3) := dk_162 0 28 (dk_at dksX5_readOrphans_2 0 rfl rfl)
theorem dX5_readOrphans_49 : decode cX5_readOrphans 49 = .ok (.aload_n 0, 1) := dk_42 (dk_at dksX5_readOrphans_2 3 rfl rfl)
theorem dX5_readOrphans_50 : decode cX5_readOrphans 50 = .ok (.getfield 47, 3) := dk_180 0 47 (dk_at dksX5_readOrphans_2 4 rfl rfl)
theorem dX5_readOrphans_53 : decode cX5_readOrphans 53 = .ok (.iload_n 1, 1) := dk_27 (dk_at dksX5_readOrphans_2 7 rfl rfl)
theorem dX5_readOrphans_54 : decode cX5_readOrphans 54 = .ok (.aload_n 0, 1) := dk_42 (dk_at dksX5_readOrphans_2 8 rfl rfl)
theorem dX5_readOrphans_55 : decode cX5_readOrphans 55 = .ok (.getfield 23, 3) := dk_180 0 23 (dk_at dksX5_readOrphans_2 9 rfl rfl)
theorem dX5_readOrphans_58 : decode cX5_readOrphans 58 = .ok (.bipush 8, 2) := dk_16 8 (dk_at dksX5_readOrphans_2 12 rfl rfl)
theorem dX5_readOrphans_60 : decode cX5_readOrphans 60 = .ok (.iconst 4, 1) := dk_7 (dk_at dksX5_readOrphans_2 14 rfl rfl)
theorem dX5_readOrphans_61 : decode cX5_readOrphans 61 = .ok (.iload_n 1, 1) := dk_27 (dk_at dksX5_readOrphans_2 15 rfl rfl)
theorem dX5_readOrphans_62 : decode cX5_readOrphans 62 = .ok (.imul, 1) := dk_104 (dk_at dksX5_readOrphans_2 16 rfl rfl)
theorem dX5_readOrphans_63 : decode cX5_readOrphans 63 = .ok (.iadd, 1) := dk_96 (dk_at dksX5_readOrphans_2 17 rfl rfl)
theorem dX5_readOrphans_64 : decode cX5_readOrphans 64 = .ok (.invokevirtual 427, 3) := dk_182 1 171 (dk_at dksX5_readOrphans_2 18 rfl rfl)
theorem dX5_readOrphans_67 : decode cX5_readOrphans 67 = .ok (.iastore, 1) := dk_79 (dk_at dksX5_readOrphans_2 21 rfl rfl)
theorem dX5_readOrphans_68 : decode cX5_readOrphans 68 = .ok (.iinc 1 1, 3) := dk_132 1 1 (dk_at dksX5_readOrphans_3 0 rfl rfl)
theorem dX5_readOrphans_71 : decode cX5_readOrphans 71 = .ok (.goto (-30), 3) := dk_167 255 226 (dk_at dksX5_readOrphans_3 3 rfl rfl)
theorem dX5_readOrphans_74 : decode cX5_readOrphans 74 = .ok (.return_, 1) := dk_177 (dk_at dksX5_readOrphans_3 6 rfl rfl)
abbrev cX5_replay : ByteArray := prog_9_method_41_code
def yX5_replay : MethodName := ⟨RX5, "replay", "(II)V"⟩
def dkwX5_replay_10 : List UInt8 := [167, 255, 122, 177]
abbrev dktX5_replay_10 : List UInt8 := dkwX5_replay_10 ++ []
def dkwX5_replay_9 : List UInt8 := [42, 180, 0, 23, 3, 182, 1, 171, 42, 180, 0, 23, 7, 182, 1, 171, 33, 182, 2, 16, 132, 6, 1]
abbrev dktX5_replay_9 : List UInt8 := dkwX5_replay_9 ++ dktX5_replay_10
def dkwX5_replay_8 : List UInt8 := [21, 5, 153, 0, 42, 42, 42, 180, 0, 127, 42, 180, 0, 23, 182, 1, 247, 184, 1, 255, 181, 0, 127, 42]
abbrev dktX5_replay_8 : List UInt8 := dkwX5_replay_8 ++ dktX5_replay_9
def dkwX5_replay_7 : List UInt8 := [16, 8, 160, 0, 19, 42, 180, 0, 23, 182, 1, 247, 33, 148, 158, 0, 7, 4, 167, 0, 4, 3, 54, 5]
abbrev dktX5_replay_7 : List UInt8 := dkwX5_replay_7 ++ dktX5_replay_8
def dkwX5_replay_6 : List UInt8 := [182, 0, 145, 42, 180, 0, 23, 17, 0, 128, 182, 0, 180, 153, 0, 31, 42, 180, 0, 23, 182, 1, 168]
abbrev dktX5_replay_6 : List UInt8 := dkwX5_replay_6 ++ dktX5_replay_7
def dkwX5_replay_5 : List UInt8 := [42, 180, 0, 71, 27, 21, 6, 42, 180, 0, 23, 180, 0, 158, 3, 182, 0, 141, 42, 180, 0, 23]
abbrev dktX5_replay_5 : List UInt8 := dkwX5_replay_5 ++ dktX5_replay_6
def dkwX5_replay_4 : List UInt8 := [4, 54, 5, 4, 54, 6, 21, 6, 42, 180, 0, 71, 27, 182, 0, 170, 162, 0, 127, 21, 5, 153, 0, 122]
abbrev dktX5_replay_4 : List UInt8 := dkwX5_replay_4 ++ dktX5_replay_5
def dkwX5_replay_3 : List UInt8 := [159, 0, 4, 177, 42, 180, 0, 23, 182, 1, 247, 66, 42, 42, 180, 0, 127, 33, 184, 1, 255, 181, 0, 127]
abbrev dktX5_replay_3 : List UInt8 := dkwX5_replay_3 ++ dktX5_replay_4
def dkwX5_replay_2 : List UInt8 := [153, 0, 27, 42, 180, 0, 23, 182, 1, 168, 16, 7, 160, 0, 15, 42, 180, 0, 23, 3, 182, 1, 171, 28]
abbrev dktX5_replay_2 : List UInt8 := dkwX5_replay_2 ++ dktX5_replay_3
def dkwX5_replay_1 : List UInt8 := [180, 0, 158, 3, 182, 0, 141, 42, 180, 0, 23, 182, 0, 145, 42, 180, 0, 23, 17, 0, 128, 182, 0, 180]
abbrev dktX5_replay_1 : List UInt8 := dkwX5_replay_1 ++ dktX5_replay_2
def dkwX5_replay_0 : List UInt8 := [42, 180, 0, 71, 27, 182, 0, 170, 154, 0, 4, 177, 42, 180, 0, 71, 27, 3, 42, 180, 0, 23]
abbrev dktX5_replay_0 : List UInt8 := dkwX5_replay_0 ++ dktX5_replay_1
theorem dksX5_replay_0 : cX5_replay.data.toList.drop 0 = dktX5_replay_0 := by decide +kernel
theorem dksX5_replay_1 : cX5_replay.data.toList.drop 22 = dktX5_replay_1 := dk_seg dksX5_replay_0 22 rfl rfl
theorem dksX5_replay_2 : cX5_replay.data.toList.drop 46 = dktX5_replay_2 := dk_seg dksX5_replay_1 24 rfl rfl
theorem dksX5_replay_3 : cX5_replay.data.toList.drop 70 = dktX5_replay_3 := dk_seg dksX5_replay_2 24 rfl rfl
theorem dksX5_replay_4 : cX5_replay.data.toList.drop 94 = dktX5_replay_4 := dk_seg dksX5_replay_3 24 rfl rfl
theorem dksX5_replay_5 : cX5_replay.data.toList.drop 118 = dktX5_replay_5 := dk_seg dksX5_replay_4 24 rfl rfl
theorem dksX5_replay_6 : cX5_replay.data.toList.drop 140 = dktX5_replay_6 := dk_seg dksX5_replay_5 22 rfl rfl
theorem dksX5_replay_7 : cX5_replay.data.toList.drop 163 = dktX5_replay_7 := dk_seg dksX5_replay_6 23 rfl rfl
theorem dksX5_replay_8 : cX5_replay.data.toList.drop 187 = dktX5_replay_8 := dk_seg dksX5_replay_7 24 rfl rfl
theorem dksX5_replay_9 : cX5_replay.data.toList.drop 211 = dktX5_replay_9 := dk_seg dksX5_replay_8 24 rfl rfl
theorem dksX5_replay_10 : cX5_replay.data.toList.drop 234 = dktX5_replay_10 := dk_seg dksX5_replay_9 23 rfl rfl
theorem dX5_replay_0 : decode cX5_replay 0 = .ok (.aload_n 0, 1) := dk_42 (dk_at dksX5_replay_0 0 rfl rfl)
theorem dX5_replay_1 : decode cX5_replay 1 = .ok (.getfield 71, 3) := dk_180 0 71 (dk_at dksX5_replay_0 1 rfl rfl)
theorem dX5_replay_4 : decode cX5_replay 4 = .ok (.iload_n 1, 1) := dk_27 (dk_at dksX5_replay_0 4 rfl rfl)
theorem dX5_replay_5 : decode cX5_replay 5 = .ok (.invokevirtual 170, 3) := dk_182 0 170 (dk_at dksX5_replay_0 5 rfl rfl)
theorem dX5_replay_8 : decode cX5_replay 8 = .ok (.ifCond .ne 4, 3) := dk_154 0 4 (dk_at dksX5_replay_0 8 rfl rfl)
theorem dX5_replay_11 : decode cX5_replay 11 = .ok (.return_, 1) := dk_177 (dk_at dksX5_replay_0 11 rfl rfl)
theorem dX5_replay_12 : decode cX5_replay 12 = .ok (.aload_n 0, 1) := dk_42 (dk_at dksX5_replay_0 12 rfl rfl)
theorem dX5_replay_13 : decode cX5_replay 13 = .ok (.getfield 71, 3) := dk_180 0 71 (dk_at dksX5_replay_0 13 rfl rfl)
theorem dX5_replay_16 : decode cX5_replay 16 = .ok (.iload_n 1, 1) := dk_27 (dk_at dksX5_replay_0 16 rfl rfl)
theorem dX5_replay_17 : decode cX5_replay 17 = .ok (.iconst 0, 1) := dk_3 (dk_at dksX5_replay_0 17 rfl rfl)
theorem dX5_replay_18 : decode cX5_replay 18 = .ok (.aload_n 0, 1) := dk_42 (dk_at dksX5_replay_0 18 rfl rfl)
theorem dX5_replay_19 : decode cX5_replay 19 = .ok (.getfield 23, 3) := dk_180 0 23 (dk_at dksX5_replay_0 19 rfl rfl)
theorem dX5_replay_22 : decode cX5_replay 22 = .ok (.getfield 158, 3) := dk_180 0 158 (dk_at dksX5_replay_1 0 rfl rfl)
theorem dX5_replay_25 : decode cX5_replay 25 = .ok (.iconst 0, 1) := dk_3 (dk_at dksX5_replay_1 3 rfl rfl)
theorem dX5_replay_26 : decode cX5_replay 26 = .ok (.invokevirtual 141, 3) := dk_182 0 141 (dk_at dksX5_replay_1 4 rfl rfl)
theorem dX5_replay_29 : decode cX5_replay 29 = .ok (.aload_n 0, 1) := dk_42 (dk_at dksX5_replay_1 7 rfl rfl)
theorem dX5_replay_30 : decode cX5_replay 30 = .ok (.getfield 23, 3) := dk_180 0 23 (dk_at dksX5_replay_1 8 rfl rfl)
theorem dX5_replay_33 : decode cX5_replay 33 = .ok (.invokevirtual 145, 3) := dk_182 0 145 (dk_at dksX5_replay_1 11 rfl rfl)
theorem dX5_replay_36 : decode cX5_replay 36 = .ok (.aload_n 0, 1) := dk_42 (dk_at dksX5_replay_1 14 rfl rfl)
theorem dX5_replay_37 : decode cX5_replay 37 = .ok (.getfield 23, 3) := dk_180 0 23 (dk_at dksX5_replay_1 15 rfl rfl)
theorem dX5_replay_40 : decode cX5_replay 40 = .ok (.sipush 128, 3) := dk_17 0 128 (dk_at dksX5_replay_1 18 rfl rfl)
theorem dX5_replay_43 : decode cX5_replay 43 = .ok (.invokevirtual 180, 3) := dk_182 0 180 (dk_at dksX5_replay_1 21 rfl rfl)
theorem dX5_replay_46 : decode cX5_replay 46 = .ok (.ifCond .eq 27, 3) := dk_153 0 27 (dk_at dksX5_replay_2 0 rfl rfl)
theorem dX5_replay_49 : decode cX5_replay 49 = .ok (.aload_n 0, 1) := dk_42 (dk_at dksX5_replay_2 3 rfl rfl)
theorem dX5_replay_50 : decode cX5_replay 50 = .ok (.getfield 23, 3) := dk_180 0 23 (dk_at dksX5_replay_2 4 rfl rfl)
theorem dX5_replay_53 : decode cX5_replay 53 = .ok (.invokevirtual 424, 3) := dk_182 1 168 (dk_at dksX5_replay_2 7 rfl rfl)
theorem dX5_replay_56 : decode cX5_replay 56 = .ok (.bipush 7, 2) := dk_16 7 (dk_at dksX5_replay_2 10 rfl rfl)
theorem dX5_replay_58 : decode cX5_replay 58 = .ok (.if_icmp .ne 15, 3) := dk_160 0 15 (dk_at dksX5_replay_2 12 rfl rfl)
theorem dX5_replay_61 : decode cX5_replay 61 = .ok (.aload_n 0, 1) := dk_42 (dk_at dksX5_replay_2 15 rfl rfl)
theorem dX5_replay_62 : decode cX5_replay 62 = .ok (.getfield 23, 3) := dk_180 0 23 (dk_at dksX5_replay_2 16 rfl rfl)
theorem dX5_replay_65 : decode cX5_replay 65 = .ok (.iconst 0, 1) := dk_3 (dk_at dksX5_replay_2 19 rfl rfl)
theorem dX5_replay_66 : decode cX5_replay 66 = .ok (.invokevirtual 427, 3) := dk_182 1 171 (dk_at dksX5_replay_2 20 rfl rfl)
theorem dX5_replay_69 : decode cX5_replay 69 = .ok (.iload_n 2, 1) := dk_28 (dk_at dksX5_replay_2 23 rfl rfl)
theorem dX5_replay_70 : decode cX5_replay 70 = .ok (.if_icmp .eq 4, 3) := dk_159 0 4 (dk_at dksX5_replay_3 0 rfl rfl)
theorem dX5_replay_73 : decode cX5_replay 73 = .ok (.return_, 1) := dk_177 (dk_at dksX5_replay_3 3 rfl rfl)
theorem dX5_replay_74 : decode cX5_replay 74 = .ok (.aload_n 0, 1) := dk_42 (dk_at dksX5_replay_3 4 rfl rfl)
theorem dX5_replay_75 : decode cX5_replay 75 = .ok (.getfield 23, 3) := dk_180 0 23 (dk_at dksX5_replay_3 5 rfl rfl)
theorem dX5_replay_78 : decode cX5_replay 78 = .ok (.invokevirtual 503, 3) := dk_182 1 247 (dk_at dksX5_replay_3 8 rfl rfl)
theorem dX5_replay_81 : decode cX5_replay 81 = .ok (.lstore_n 3, 1) := dk_66 (dk_at dksX5_replay_3 11 rfl rfl)
theorem dX5_replay_82 : decode cX5_replay 82 = .ok (.aload_n 0, 1) := dk_42 (dk_at dksX5_replay_3 12 rfl rfl)
theorem dX5_replay_83 : decode cX5_replay 83 = .ok (.aload_n 0, 1) := dk_42 (dk_at dksX5_replay_3 13 rfl rfl)
theorem dX5_replay_84 : decode cX5_replay 84 = .ok (.getfield 127, 3) := dk_180 0 127 (dk_at dksX5_replay_3 14 rfl rfl)
theorem dX5_replay_87 : decode cX5_replay 87 = .ok (.lload_n 3, 1) := dk_33 (dk_at dksX5_replay_3 17 rfl rfl)
theorem dX5_replay_88 : decode cX5_replay 88 = .ok (.invokestatic 511, 3) := dk_184 1 255 (dk_at dksX5_replay_3 18 rfl rfl)
theorem dX5_replay_91 : decode cX5_replay 91 = .ok (.putfield 127, 3) := dk_181 0 127 (dk_at dksX5_replay_3 21 rfl rfl)
theorem dX5_replay_94 : decode cX5_replay 94 = .ok (.iconst 1, 1) := dk_4 (dk_at dksX5_replay_4 0 rfl rfl)
theorem dX5_replay_95 : decode cX5_replay 95 = .ok (.istore 5, 2) := dk_54 5 (dk_at dksX5_replay_4 1 rfl rfl)
theorem dX5_replay_97 : decode cX5_replay 97 = .ok (.iconst 1, 1) := dk_4 (dk_at dksX5_replay_4 3 rfl rfl)
theorem dX5_replay_98 : decode cX5_replay 98 = .ok (.istore 6, 2) := dk_54 6 (dk_at dksX5_replay_4 4 rfl rfl)
theorem dX5_replay_100 : decode cX5_replay 100 = .ok (.iload 6, 2) := dk_21 6 (dk_at dksX5_replay_4 6 rfl rfl)
theorem dX5_replay_102 : decode cX5_replay 102 = .ok (.aload_n 0, 1) := dk_42 (dk_at dksX5_replay_4 8 rfl rfl)
theorem dX5_replay_103 : decode cX5_replay 103 = .ok (.getfield 71, 3) := dk_180 0 71 (dk_at dksX5_replay_4 9 rfl rfl)
theorem dX5_replay_106 : decode cX5_replay 106 = .ok (.iload_n 1, 1) := dk_27 (dk_at dksX5_replay_4 12 rfl rfl)
theorem dX5_replay_107 : decode cX5_replay 107 = .ok (.invokevirtual 170, 3) := dk_182 0 170 (dk_at dksX5_replay_4 13 rfl rfl)
theorem dX5_replay_110 : decode cX5_replay 110 = .ok (.if_icmp .ge 127, 3) := dk_162 0 127 (dk_at dksX5_replay_4 16 rfl rfl)
theorem dX5_replay_113 : decode cX5_replay 113 = .ok (.iload 5, 2) := dk_21 5 (dk_at dksX5_replay_4 19 rfl rfl)
theorem dX5_replay_115 : decode cX5_replay 115 = .ok (.ifCond .eq 122, 3) := dk_153 0 122 (dk_at dksX5_replay_4 21 rfl rfl)
theorem dX5_replay_118 : decode cX5_replay 118 = .ok (.aload_n 0, 1) := dk_42 (dk_at dksX5_replay_5 0 rfl rfl)
theorem dX5_replay_119 : decode cX5_replay 119 = .ok (.getfield 71, 3) := dk_180 0 71 (dk_at dksX5_replay_5 1 rfl rfl)
theorem dX5_replay_122 : decode cX5_replay 122 = .ok (.iload_n 1, 1) := dk_27 (dk_at dksX5_replay_5 4 rfl rfl)
theorem dX5_replay_123 : decode cX5_replay 123 = .ok (.iload 6, 2) := dk_21 6 (dk_at dksX5_replay_5 5 rfl rfl)
theorem dX5_replay_125 : decode cX5_replay 125 = .ok (.aload_n 0, 1) := dk_42 (dk_at dksX5_replay_5 7 rfl rfl)
theorem dX5_replay_126 : decode cX5_replay 126 = .ok (.getfield 23, 3) := dk_180 0 23 (dk_at dksX5_replay_5 8 rfl rfl)
theorem dX5_replay_129 : decode cX5_replay 129 = .ok (.getfield 158, 3) := dk_180 0 158 (dk_at dksX5_replay_5 11 rfl rfl)
theorem dX5_replay_132 : decode cX5_replay 132 = .ok (.iconst 0, 1) := dk_3 (dk_at dksX5_replay_5 14 rfl rfl)
theorem dX5_replay_133 : decode cX5_replay 133 = .ok (.invokevirtual 141, 3) := dk_182 0 141 (dk_at dksX5_replay_5 15 rfl rfl)
theorem dX5_replay_136 : decode cX5_replay 136 = .ok (.aload_n 0, 1) := dk_42 (dk_at dksX5_replay_5 18 rfl rfl)
theorem dX5_replay_137 : decode cX5_replay 137 = .ok (.getfield 23, 3) := dk_180 0 23 (dk_at dksX5_replay_5 19 rfl rfl)
theorem dX5_replay_140 : decode cX5_replay 140 = .ok (.invokevirtual 145, 3) := dk_182 0 145 (dk_at dksX5_replay_6 0 rfl rfl)
theorem dX5_replay_143 : decode cX5_replay 143 = .ok (.aload_n 0, 1) := dk_42 (dk_at dksX5_replay_6 3 rfl rfl)
theorem dX5_replay_144 : decode cX5_replay 144 = .ok (.getfield 23, 3) := dk_180 0 23 (dk_at dksX5_replay_6 4 rfl rfl)
theorem dX5_replay_147 : decode cX5_replay 147 = .ok (.sipush 128, 3) := dk_17 0 128 (dk_at dksX5_replay_6 7 rfl rfl)
theorem dX5_replay_150 : decode cX5_replay 150 = .ok (.invokevirtual 180, 3) := dk_182 0 180 (dk_at dksX5_replay_6 10 rfl rfl)
theorem dX5_replay_153 : decode cX5_replay 153 = .ok (.ifCond .eq 31, 3) := dk_153 0 31 (dk_at dksX5_replay_6 13 rfl rfl)
theorem dX5_replay_156 : decode cX5_replay 156 = .ok (.aload_n 0, 1) := dk_42 (dk_at dksX5_replay_6 16 rfl rfl)
theorem dX5_replay_157 : decode cX5_replay 157 = .ok (.getfield 23, 3) := dk_180 0 23 (dk_at dksX5_replay_6 17 rfl rfl)
theorem dX5_replay_160 : decode cX5_replay 160 = .ok (.invokevirtual 424, 3) := dk_182 1 168 (dk_at dksX5_replay_6 20 rfl rfl)
theorem dX5_replay_163 : decode cX5_replay 163 = .ok (.bipush 8, 2) := dk_16 8 (dk_at dksX5_replay_7 0 rfl rfl)
theorem dX5_replay_165 : decode cX5_replay 165 = .ok (.if_icmp .ne 19, 3) := dk_160 0 19 (dk_at dksX5_replay_7 2 rfl rfl)
theorem dX5_replay_168 : decode cX5_replay 168 = .ok (.aload_n 0, 1) := dk_42 (dk_at dksX5_replay_7 5 rfl rfl)
theorem dX5_replay_169 : decode cX5_replay 169 = .ok (.getfield 23, 3) := dk_180 0 23 (dk_at dksX5_replay_7 6 rfl rfl)
theorem dX5_replay_172 : decode cX5_replay 172 = .ok (.invokevirtual 503, 3) := dk_182 1 247 (dk_at dksX5_replay_7 9 rfl rfl)
theorem dX5_replay_175 : decode cX5_replay 175 = .ok (.lload_n 3, 1) := dk_33 (dk_at dksX5_replay_7 12 rfl rfl)
theorem dX5_replay_176 : decode cX5_replay 176 = .ok (.lcmp, 1) := dk_148 (dk_at dksX5_replay_7 13 rfl rfl)
theorem dX5_replay_177 : decode cX5_replay 177 = .ok (.ifCond .le 7, 3) := dk_158 0 7 (dk_at dksX5_replay_7 14 rfl rfl)
theorem dX5_replay_180 : decode cX5_replay 180 = .ok (.iconst 1, 1) := dk_4 (dk_at dksX5_replay_7 17 rfl rfl)
theorem dX5_replay_181 : decode cX5_replay 181 = .ok (.goto 4, 3) := dk_167 0 4 (dk_at dksX5_replay_7 18 rfl rfl)
theorem dX5_replay_184 : decode cX5_replay 184 = .ok (.iconst 0, 1) := dk_3 (dk_at dksX5_replay_7 21 rfl rfl)
theorem dX5_replay_185 : decode cX5_replay 185 = .ok (.istore 5, 2) := dk_54 5 (dk_at dksX5_replay_7 22 rfl rfl)
theorem dX5_replay_187 : decode cX5_replay 187 = .ok (.iload 5, 2) := dk_21 5 (dk_at dksX5_replay_8 0 rfl rfl)
theorem dX5_replay_189 : decode cX5_replay 189 = .ok (.ifCond .eq 42, 3) := dk_153 0 42 (dk_at dksX5_replay_8 2 rfl rfl)
theorem dX5_replay_192 : decode cX5_replay 192 = .ok (.aload_n 0, 1) := dk_42 (dk_at dksX5_replay_8 5 rfl rfl)
theorem dX5_replay_193 : decode cX5_replay 193 = .ok (.aload_n 0, 1) := dk_42 (dk_at dksX5_replay_8 6 rfl rfl)
theorem dX5_replay_194 : decode cX5_replay 194 = .ok (.getfield 127, 3) := dk_180 0 127 (dk_at dksX5_replay_8 7 rfl rfl)
theorem dX5_replay_197 : decode cX5_replay 197 = .ok (.aload_n 0, 1) := dk_42 (dk_at dksX5_replay_8 10 rfl rfl)
theorem dX5_replay_198 : decode cX5_replay 198 = .ok (.getfield 23, 3) := dk_180 0 23 (dk_at dksX5_replay_8 11 rfl rfl)
theorem dX5_replay_201 : decode cX5_replay 201 = .ok (.invokevirtual 503, 3) := dk_182 1 247 (dk_at dksX5_replay_8 14 rfl rfl)
theorem dX5_replay_204 : decode cX5_replay 204 = .ok (.invokestatic 511, 3) := dk_184 1 255 (dk_at dksX5_replay_8 17 rfl rfl)
theorem dX5_replay_207 : decode cX5_replay 207 = .ok (.putfield 127, 3) := dk_181 0 127 (dk_at dksX5_replay_8 20 rfl rfl)
theorem dX5_replay_210 : decode cX5_replay 210 = .ok (.aload_n 0, 1) := dk_42 (dk_at dksX5_replay_8 23 rfl rfl)
theorem dX5_replay_211 : decode cX5_replay 211 = .ok (.aload_n 0, 1) := dk_42 (dk_at dksX5_replay_9 0 rfl rfl)
theorem dX5_replay_212 : decode cX5_replay 212 = .ok (.getfield 23, 3) := dk_180 0 23 (dk_at dksX5_replay_9 1 rfl rfl)
theorem dX5_replay_215 : decode cX5_replay 215 = .ok (.iconst 0, 1) := dk_3 (dk_at dksX5_replay_9 4 rfl rfl)
theorem dX5_replay_216 : decode cX5_replay 216 = .ok (.invokevirtual 427, 3) := dk_182 1 171 (dk_at dksX5_replay_9 5 rfl rfl)
theorem dX5_replay_219 : decode cX5_replay 219 = .ok (.aload_n 0, 1) := dk_42 (dk_at dksX5_replay_9 8 rfl rfl)
theorem dX5_replay_220 : decode cX5_replay 220 = .ok (.getfield 23, 3) := dk_180 0 23 (dk_at dksX5_replay_9 9 rfl rfl)
theorem dX5_replay_223 : decode cX5_replay 223 = .ok (.iconst 4, 1) := dk_7 (dk_at dksX5_replay_9 12 rfl rfl)
theorem dX5_replay_224 : decode cX5_replay 224 = .ok (.invokevirtual 427, 3) := dk_182 1 171 (dk_at dksX5_replay_9 13 rfl rfl)
theorem dX5_replay_227 : decode cX5_replay 227 = .ok (.lload_n 3, 1) := dk_33 (dk_at dksX5_replay_9 16 rfl rfl)
theorem dX5_replay_228 : decode cX5_replay 228 = .ok (.invokevirtual 528, 3) := dk_182 2 16 (dk_at dksX5_replay_9 17 rfl rfl)
theorem dX5_replay_231 : decode cX5_replay 231 = .ok (.iinc 6 1, 3) := dk_132 6 1 (dk_at dksX5_replay_9 20 rfl rfl)
theorem dX5_replay_234 : decode cX5_replay 234 = .ok (.goto (-134), 3) := dk_167 255 122 (dk_at dksX5_replay_10 0 rfl rfl)
theorem dX5_replay_237 : decode cX5_replay 237 = .ok (.return_, 1) := dk_177 (dk_at dksX5_replay_10 3 rfl rfl)
abbrev cX5_replayBud : ByteArray := prog_9_method_42_code
def yX5_replayBud : MethodName := ⟨RX5, "replayBud", "(IIJ)V"⟩
def dkwX5_replayBud_6 : List UInt8 := [167, 255, 131]
abbrev dktX5_replayBud_6 : List UInt8 := dkwX5_replayBud_6 ++ []
def dkwX5_replayBud_5 : List UInt8 := [54, 5, 167, 255, 237, 42, 22, 7, 181, 1, 239, 42, 42, 180, 0, 127, 22, 7, 184, 1, 255, 181, 0, 127]
abbrev dktX5_replayBud_5 : List UInt8 := dkwX5_replayBud_5 ++ dktX5_replayBud_6
def dkwX5_replayBud_4 : List UInt8 := [182, 0, 215, 153, 0, 44, 21, 5, 21, 6, 162, 0, 18, 21, 5, 42, 27, 21, 5, 182, 2, 20, 96]
abbrev dktX5_replayBud_4 : List UInt8 := dkwX5_replayBud_4 ++ dktX5_replayBud_5
def dkwX5_replayBud_3 : List UInt8 := [157, 0, 4, 177, 42, 180, 0, 16, 182, 1, 247, 55, 7, 21, 6, 21, 9, 96, 54, 6, 42, 180, 0, 16]
abbrev dktX5_replayBud_3 : List UInt8 := dkwX5_replayBud_3 ++ dktX5_replayBud_4
def dkwX5_replayBud_2 : List UInt8 := [21, 6, 54, 5, 167, 255, 220, 21, 9, 158, 0, 16, 42, 180, 0, 16, 182, 1, 247, 22, 7, 148]
abbrev dktX5_replayBud_2 : List UInt8 := dkwX5_replayBud_2 ++ dktX5_replayBud_3
def dkwX5_replayBud_1 : List UInt8 := [182, 1, 161, 54, 9, 21, 9, 154, 0, 24, 21, 5, 21, 6, 160, 0, 17, 21, 6, 184, 1, 165, 54, 6]
abbrev dktX5_replayBud_1 : List UInt8 := dkwX5_replayBud_1 ++ dktX5_replayBud_2
def dkwX5_replayBud_0 : List UInt8 := [28, 54, 5, 28, 54, 6, 42, 180, 1, 239, 33, 184, 1, 255, 55, 7, 42, 27, 21, 6, 42, 180, 0, 16]
abbrev dktX5_replayBud_0 : List UInt8 := dkwX5_replayBud_0 ++ dktX5_replayBud_1
theorem dksX5_replayBud_0 : cX5_replayBud.data.toList.drop 0 = dktX5_replayBud_0 := by decide +kernel
theorem dksX5_replayBud_1 : cX5_replayBud.data.toList.drop 24 = dktX5_replayBud_1 := dk_seg dksX5_replayBud_0 24 rfl rfl
theorem dksX5_replayBud_2 : cX5_replayBud.data.toList.drop 48 = dktX5_replayBud_2 := dk_seg dksX5_replayBud_1 24 rfl rfl
theorem dksX5_replayBud_3 : cX5_replayBud.data.toList.drop 70 = dktX5_replayBud_3 := dk_seg dksX5_replayBud_2 22 rfl rfl
theorem dksX5_replayBud_4 : cX5_replayBud.data.toList.drop 94 = dktX5_replayBud_4 := dk_seg dksX5_replayBud_3 24 rfl rfl
theorem dksX5_replayBud_5 : cX5_replayBud.data.toList.drop 117 = dktX5_replayBud_5 := dk_seg dksX5_replayBud_4 23 rfl rfl
theorem dksX5_replayBud_6 : cX5_replayBud.data.toList.drop 141 = dktX5_replayBud_6 := dk_seg dksX5_replayBud_5 24 rfl rfl
theorem dX5_replayBud_0 : decode cX5_replayBud 0 = .ok (.iload_n 2, 1) := dk_28 (dk_at dksX5_replayBud_0 0 rfl rfl)
theorem dX5_replayBud_1 : decode cX5_replayBud 1 = .ok (.istore 5, 2) := dk_54 5 (dk_at dksX5_replayBud_0 1 rfl rfl)
theorem dX5_replayBud_3 : decode cX5_replayBud 3 = .ok (.iload_n 2, 1) := dk_28 (dk_at dksX5_replayBud_0 3 rfl rfl)
theorem dX5_replayBud_4 : decode cX5_replayBud 4 = .ok (.istore 6, 2) := dk_54 6 (dk_at dksX5_replayBud_0 4 rfl rfl)
theorem dX5_replayBud_6 : decode cX5_replayBud 6 = .ok (.aload_n 0, 1) := dk_42 (dk_at dksX5_replayBud_0 6 rfl rfl)
theorem dX5_replayBud_7 : decode cX5_replayBud 7 = .ok (.getfield 495, 3) := dk_180 1 239 (dk_at dksX5_replayBud_0 7 rfl rfl)
theorem dX5_replayBud_10 : decode cX5_replayBud 10 = .ok (.lload_n 3, 1) := dk_33 (dk_at dksX5_replayBud_0 10 rfl rfl)
theorem dX5_replayBud_11 : decode cX5_replayBud 11 = .ok (.invokestatic 511, 3) := dk_184 1 255 (dk_at dksX5_replayBud_0 11 rfl rfl)
theorem dX5_replayBud_14 : decode cX5_replayBud 14 = .ok (.lstore 7, 2) := dk_55 7 (dk_at dksX5_replayBud_0 14 rfl rfl)
theorem dX5_replayBud_16 : decode cX5_replayBud 16 = .ok (.aload_n 0, 1) := dk_42 (dk_at dksX5_replayBud_0 16 rfl rfl)
theorem dX5_replayBud_17 : decode cX5_replayBud 17 = .ok (.iload_n 1, 1) := dk_27 (dk_at dksX5_replayBud_0 17 rfl rfl)
theorem dX5_replayBud_18 : decode cX5_replayBud 18 = .ok (.iload 6, 2) := dk_21 6 (dk_at dksX5_replayBud_0 18 rfl rfl)
theorem dX5_replayBud_20 : decode cX5_replayBud 20 = .ok (.aload_n 0, 1) := dk_42 (dk_at dksX5_replayBud_0 20 rfl rfl)
theorem dX5_replayBud_21 : decode cX5_replayBud 21 = .ok (.getfield 16, 3) := dk_180 0 16 (dk_at dksX5_replayBud_0 21 rfl rfl)
theorem dX5_replayBud_24 : decode cX5_replayBud 24 = .ok (.invokevirtual 417, 3) := dk_182 1 161 (dk_at dksX5_replayBud_1 0 rfl rfl)
theorem dX5_replayBud_27 : decode cX5_replayBud 27 = .ok (.istore 9, 2) := dk_54 9 (dk_at dksX5_replayBud_1 3 rfl rfl)
theorem dX5_replayBud_29 : decode cX5_replayBud 29 = .ok (.iload 9, 2) := dk_21 9 (dk_at dksX5_replayBud_1 5 rfl rfl)
theorem dX5_replayBud_31 : decode cX5_replayBud 31 = .ok (.ifCond .ne 24, 3) := dk_154 0 24 (dk_at dksX5_replayBud_1 7 rfl rfl)
theorem dX5_replayBud_34 : decode cX5_replayBud 34 = .ok (.iload 5, 2) := dk_21 5 (dk_at dksX5_replayBud_1 10 rfl rfl)
theorem dX5_replayBud_36 : decode cX5_replayBud 36 = .ok (.iload 6, 2) := dk_21 6 (dk_at dksX5_replayBud_1 12 rfl rfl)
theorem dX5_replayBud_38 : decode cX5_replayBud 38 = .ok (.if_icmp .ne 17, 3) := dk_160 0 17 (dk_at dksX5_replayBud_1 14 rfl rfl)
theorem dX5_replayBud_41 : decode cX5_replayBud 41 = .ok (.iload 6, 2) := dk_21 6 (dk_at dksX5_replayBud_1 17 rfl rfl)
theorem dX5_replayBud_43 : decode cX5_replayBud 43 = .ok (.invokestatic 421, 3) := dk_184 1 165 (dk_at dksX5_replayBud_1 19 rfl rfl)
theorem dX5_replayBud_46 : decode cX5_replayBud 46 = .ok (.istore 6, 2) := dk_54 6 (dk_at dksX5_replayBud_1 22 rfl rfl)
theorem dX5_replayBud_48 : decode cX5_replayBud 48 = .ok (.iload 6, 2) := dk_21 6 (dk_at dksX5_replayBud_2 0 rfl rfl)
theorem dX5_replayBud_50 : decode cX5_replayBud 50 = .ok (.istore 5, 2) := dk_54 5 (dk_at dksX5_replayBud_2 2 rfl rfl)
theorem dX5_replayBud_52 : decode cX5_replayBud 52 = .ok (.goto (-36), 3) := dk_167 255 220 (dk_at dksX5_replayBud_2 4 rfl rfl)
theorem dX5_replayBud_55 : decode cX5_replayBud 55 = .ok (.iload 9, 2) := dk_21 9 (dk_at dksX5_replayBud_2 7 rfl rfl)
theorem dX5_replayBud_57 : decode cX5_replayBud 57 = .ok (.ifCond .le 16, 3) := dk_158 0 16 (dk_at dksX5_replayBud_2 9 rfl rfl)
theorem dX5_replayBud_60 : decode cX5_replayBud 60 = .ok (.aload_n 0, 1) := dk_42 (dk_at dksX5_replayBud_2 12 rfl rfl)
theorem dX5_replayBud_61 : decode cX5_replayBud 61 = .ok (.getfield 16, 3) := dk_180 0 16 (dk_at dksX5_replayBud_2 13 rfl rfl)
theorem dX5_replayBud_64 : decode cX5_replayBud 64 = .ok (.invokevirtual 503, 3) := dk_182 1 247 (dk_at dksX5_replayBud_2 16 rfl rfl)
theorem dX5_replayBud_67 : decode cX5_replayBud 67 = .ok (.lload 7, 2) := dk_22 7 (dk_at dksX5_replayBud_2 19 rfl rfl)
theorem dX5_replayBud_69 : decode cX5_replayBud 69 = .ok (.lcmp, 1) := dk_148 (dk_at dksX5_replayBud_2 21 rfl rfl)
theorem dX5_replayBud_70 : decode cX5_replayBud 70 = .ok (.ifCond .gt 4, 3) := dk_157 0 4 (dk_at dksX5_replayBud_3 0 rfl rfl)
theorem dX5_replayBud_73 : decode cX5_replayBud 73 = .ok (.return_, 1) := dk_177 (dk_at dksX5_replayBud_3 3 rfl rfl)
theorem dX5_replayBud_74 : decode cX5_replayBud 74 = .ok (.aload_n 0, 1) := dk_42 (dk_at dksX5_replayBud_3 4 rfl rfl)
theorem dX5_replayBud_75 : decode cX5_replayBud 75 = .ok (.getfield 16, 3) := dk_180 0 16 (dk_at dksX5_replayBud_3 5 rfl rfl)
theorem dX5_replayBud_78 : decode cX5_replayBud 78 = .ok (.invokevirtual 503, 3) := dk_182 1 247 (dk_at dksX5_replayBud_3 8 rfl rfl)
theorem dX5_replayBud_81 : decode cX5_replayBud 81 = .ok (.lstore 7, 2) := dk_55 7 (dk_at dksX5_replayBud_3 11 rfl rfl)
theorem dX5_replayBud_83 : decode cX5_replayBud 83 = .ok (.iload 6, 2) := dk_21 6 (dk_at dksX5_replayBud_3 13 rfl rfl)
theorem dX5_replayBud_85 : decode cX5_replayBud 85 = .ok (.iload 9, 2) := dk_21 9 (dk_at dksX5_replayBud_3 15 rfl rfl)
theorem dX5_replayBud_87 : decode cX5_replayBud 87 = .ok (.iadd, 1) := dk_96 (dk_at dksX5_replayBud_3 17 rfl rfl)
theorem dX5_replayBud_88 : decode cX5_replayBud 88 = .ok (.istore 6, 2) := dk_54 6 (dk_at dksX5_replayBud_3 18 rfl rfl)
theorem dX5_replayBud_90 : decode cX5_replayBud 90 = .ok (.aload_n 0, 1) := dk_42 (dk_at dksX5_replayBud_3 20 rfl rfl)
theorem dX5_replayBud_91 : decode cX5_replayBud 91 = .ok (.getfield 16, 3) := dk_180 0 16 (dk_at dksX5_replayBud_3 21 rfl rfl)
theorem dX5_replayBud_94 : decode cX5_replayBud 94 = .ok (.invokevirtual 215, 3) := dk_182 0 215 (dk_at dksX5_replayBud_4 0 rfl rfl)
theorem dX5_replayBud_97 : decode cX5_replayBud 97 = .ok (.ifCond .eq 44, 3) := dk_153 0 44 (dk_at dksX5_replayBud_4 3 rfl rfl)
theorem dX5_replayBud_100 : decode cX5_replayBud 100 = .ok (.iload 5, 2) := dk_21 5 (dk_at dksX5_replayBud_4 6 rfl rfl)
theorem dX5_replayBud_102 : decode cX5_replayBud 102 = .ok (.iload 6, 2) := dk_21 6 (dk_at dksX5_replayBud_4 8 rfl rfl)
theorem dX5_replayBud_104 : decode cX5_replayBud 104 = .ok (.if_icmp .ge 18, 3) := dk_162 0 18 (dk_at dksX5_replayBud_4 10 rfl rfl)
theorem dX5_replayBud_107 : decode cX5_replayBud 107 = .ok (.iload 5, 2) := dk_21 5 (dk_at dksX5_replayBud_4 13 rfl rfl)
theorem dX5_replayBud_109 : decode cX5_replayBud 109 = .ok (.aload_n 0, 1) := dk_42 (dk_at dksX5_replayBud_4 15 rfl rfl)
theorem dX5_replayBud_110 : decode cX5_replayBud 110 = .ok (.iload_n 1, 1) := dk_27 (dk_at dksX5_replayBud_4 16 rfl rfl)
theorem dX5_replayBud_111 : decode cX5_replayBud 111 = .ok (.iload 5, 2) := dk_21 5 (dk_at dksX5_replayBud_4 17 rfl rfl)
theorem dX5_replayBud_113 : decode cX5_replayBud 113 = .ok (.invokevirtual 532, 3) := dk_182 2 20 (dk_at dksX5_replayBud_4 19 rfl rfl)
theorem dX5_replayBud_116 : decode cX5_replayBud 116 = .ok (.iadd, 1) := dk_96 (dk_at dksX5_replayBud_4 22 rfl rfl)
theorem dX5_replayBud_117 : decode cX5_replayBud 117 = .ok (.istore 5, 2) := dk_54 5 (dk_at dksX5_replayBud_5 0 rfl rfl)
theorem dX5_replayBud_119 : decode cX5_replayBud 119 = .ok (.goto (-19), 3) := dk_167 255 237 (dk_at dksX5_replayBud_5 2 rfl rfl)
theorem dX5_replayBud_122 : decode cX5_replayBud 122 = .ok (.aload_n 0, 1) := dk_42 (dk_at dksX5_replayBud_5 5 rfl rfl)
theorem dX5_replayBud_123 : decode cX5_replayBud 123 = .ok (.lload 7, 2) := dk_22 7 (dk_at dksX5_replayBud_5 6 rfl rfl)
theorem dX5_replayBud_125 : decode cX5_replayBud 125 = .ok (.putfield 495, 3) := dk_181 1 239 (dk_at dksX5_replayBud_5 8 rfl rfl)
theorem dX5_replayBud_128 : decode cX5_replayBud 128 = .ok (.aload_n 0, 1) := dk_42 (dk_at dksX5_replayBud_5 11 rfl rfl)
theorem dX5_replayBud_129 : decode cX5_replayBud 129 = .ok (.aload_n 0, 1) := dk_42 (dk_at dksX5_replayBud_5 12 rfl rfl)
theorem dX5_replayBud_130 : decode cX5_replayBud 130 = .ok (.getfield 127, 3) := dk_180 0 127 (dk_at dksX5_replayBud_5 13 rfl rfl)
theorem dX5_replayBud_133 : decode cX5_replayBud 133 = .ok (.lload 7, 2) := dk_22 7 (dk_at dksX5_replayBud_5 16 rfl rfl)
theorem dX5_replayBud_135 : decode cX5_replayBud 135 = .ok (.invokestatic 511, 3) := dk_184 1 255 (dk_at dksX5_replayBud_5 18 rfl rfl)
theorem dX5_replayBud_138 : decode cX5_replayBud 138 = .ok (.putfield 127, 3) := dk_181 0 127 (dk_at dksX5_replayBud_5 21 rfl rfl)
theorem dX5_replayBud_141 : decode cX5_replayBud 141 = .ok (.goto (-125), 3) := dk_167 255 131 (dk_at dksX5_replayBud_6 0 rfl rfl)
abbrev cX5_redo : ByteArray := prog_9_method_43_code
def yX5_redo : MethodName := ⟨RX5, "redo", "(II)I"⟩
def dkwX5_redo_0 : List UInt8 := [42, 27, 28, 42, 180, 0, 16, 182, 1, 161, 62, 42, 42, 180, 0, 16, 27, 28, 182, 2, 23, 29, 172]
abbrev dktX5_redo_0 : List UInt8 := dkwX5_redo_0 ++ []
theorem dksX5_redo_0 : cX5_redo.data.toList.drop 0 = dktX5_redo_0 := by decide +kernel
theorem dX5_redo_0 : decode cX5_redo 0 = .ok (.aload_n 0, 1) := dk_42 (dk_at dksX5_redo_0 0 rfl rfl)
theorem dX5_redo_1 : decode cX5_redo 1 = .ok (.iload_n 1, 1) := dk_27 (dk_at dksX5_redo_0 1 rfl rfl)
theorem dX5_redo_2 : decode cX5_redo 2 = .ok (.iload_n 2, 1) := dk_28 (dk_at dksX5_redo_0 2 rfl rfl)
theorem dX5_redo_3 : decode cX5_redo 3 = .ok (.aload_n 0, 1) := dk_42 (dk_at dksX5_redo_0 3 rfl rfl)
theorem dX5_redo_4 : decode cX5_redo 4 = .ok (.getfield 16, 3) := dk_180 0 16 (dk_at dksX5_redo_0 4 rfl rfl)
theorem dX5_redo_7 : decode cX5_redo 7 = .ok (.invokevirtual 417, 3) := dk_182 1 161 (dk_at dksX5_redo_0 7 rfl rfl)
theorem dX5_redo_10 : decode cX5_redo 10 = .ok (.istore_n 3, 1) := dk_62 (dk_at dksX5_redo_0 10 rfl rfl)
theorem dX5_redo_11 : decode cX5_redo 11 = .ok (.aload_n 0, 1) := dk_42 (dk_at dksX5_redo_0 11 rfl rfl)
theorem dX5_redo_12 : decode cX5_redo 12 = .ok (.aload_n 0, 1) := dk_42 (dk_at dksX5_redo_0 12 rfl rfl)
theorem dX5_redo_13 : decode cX5_redo 13 = .ok (.getfield 16, 3) := dk_180 0 16 (dk_at dksX5_redo_0 13 rfl rfl)
theorem dX5_redo_16 : decode cX5_redo 16 = .ok (.iload_n 1, 1) := dk_27 (dk_at dksX5_redo_0 16 rfl rfl)
theorem dX5_redo_17 : decode cX5_redo 17 = .ok (.iload_n 2, 1) := dk_28 (dk_at dksX5_redo_0 17 rfl rfl)
theorem dX5_redo_18 : decode cX5_redo 18 = .ok (.invokevirtual 535, 3) := dk_182 2 23 (dk_at dksX5_redo_0 18 rfl rfl)
theorem dX5_redo_21 : decode cX5_redo 21 = .ok (.iload_n 3, 1) := dk_29 (dk_at dksX5_redo_0 21 rfl rfl)
theorem dX5_redo_22 : decode cX5_redo 22 = .ok (.ireturn, 1) := dk_172 (dk_at dksX5_redo_0 22 rfl rfl)
abbrev cX5_settle : ByteArray := prog_9_method_48_code
def yX5_settle : MethodName := ⟨RX5, "settle", "()V"⟩
def dkwX5_settle_4 : List UInt8 := [177]
abbrev dktX5_settle_4 : List UInt8 := dkwX5_settle_4 ++ []
def dkwX5_settle_3 : List UInt8 := [167, 255, 196, 42, 3, 181, 0, 226, 42, 89, 180, 0, 127, 20, 2, 50, 97, 181, 0, 127, 42, 182, 0, 229]
abbrev dktX5_settle_3 : List UInt8 := dkwX5_settle_3 ++ dktX5_settle_4
def dkwX5_settle_2 : List UInt8 := [180, 0, 79, 180, 1, 40, 27, 46, 154, 0, 11, 42, 180, 0, 71, 27, 182, 1, 31, 132, 1, 1]
abbrev dktX5_settle_2 : List UInt8 := dkwX5_settle_2 ++ dktX5_settle_3
def dkwX5_settle_1 : List UInt8 := [180, 1, 40, 27, 42, 180, 0, 79, 180, 1, 107, 27, 46, 158, 0, 7, 4, 167, 0, 4, 3, 79, 42]
abbrev dktX5_settle_1 : List UInt8 := dkwX5_settle_1 ++ dktX5_settle_2
def dkwX5_settle_0 : List UInt8 := [42, 180, 0, 79, 180, 0, 86, 60, 27, 42, 180, 0, 71, 180, 0, 83, 162, 0, 55, 42, 180, 0, 79]
abbrev dktX5_settle_0 : List UInt8 := dkwX5_settle_0 ++ dktX5_settle_1
theorem dksX5_settle_0 : cX5_settle.data.toList.drop 0 = dktX5_settle_0 := by decide +kernel
theorem dksX5_settle_1 : cX5_settle.data.toList.drop 23 = dktX5_settle_1 := dk_seg dksX5_settle_0 23 rfl rfl
theorem dksX5_settle_2 : cX5_settle.data.toList.drop 46 = dktX5_settle_2 := dk_seg dksX5_settle_1 23 rfl rfl
theorem dksX5_settle_3 : cX5_settle.data.toList.drop 68 = dktX5_settle_3 := dk_seg dksX5_settle_2 22 rfl rfl
theorem dksX5_settle_4 : cX5_settle.data.toList.drop 92 = dktX5_settle_4 := dk_seg dksX5_settle_3 24 rfl rfl
theorem dX5_settle_0 : decode cX5_settle 0 = .ok (.aload_n 0, 1) := dk_42 (dk_at dksX5_settle_0 0 rfl rfl)
theorem dX5_settle_1 : decode cX5_settle 1 = .ok (.getfield 79, 3) := dk_180 0 79 (dk_at dksX5_settle_0 1 rfl rfl)
theorem dX5_settle_4 : decode cX5_settle 4 = .ok (.getfield 86, 3) := dk_180 0 86 (dk_at dksX5_settle_0 4 rfl rfl)
theorem dX5_settle_7 : decode cX5_settle 7 = .ok (.istore_n 1, 1) := dk_60 (dk_at dksX5_settle_0 7 rfl rfl)
theorem dX5_settle_8 : decode cX5_settle 8 = .ok (.iload_n 1, 1) := dk_27 (dk_at dksX5_settle_0 8 rfl rfl)
theorem dX5_settle_9 : decode cX5_settle 9 = .ok (.aload_n 0, 1) := dk_42 (dk_at dksX5_settle_0 9 rfl rfl)
theorem dX5_settle_10 : decode cX5_settle 10 = .ok (.getfield 71, 3) := dk_180 0 71 (dk_at dksX5_settle_0 10 rfl rfl)
theorem dX5_settle_13 : decode cX5_settle 13 = .ok (.getfield 83, 3) := dk_180 0 83 (dk_at dksX5_settle_0 13 rfl rfl)
theorem dX5_settle_16 : decode cX5_settle 16 = .ok (.if_icmp .ge 55, 3) := dk_162 0 55 (dk_at dksX5_settle_0 16 rfl rfl)
theorem dX5_settle_19 : decode cX5_settle 19 = .ok (.aload_n 0, 1) := dk_42 (dk_at dksX5_settle_0 19 rfl rfl)
theorem dX5_settle_20 : decode cX5_settle 20 = .ok (.getfield 79, 3) := dk_180 0 79 (dk_at dksX5_settle_0 20 rfl rfl)
theorem dX5_settle_23 : decode cX5_settle 23 = .ok (.getfield 296, 3) := dk_180 1 40 (dk_at dksX5_settle_1 0 rfl rfl)
theorem dX5_settle_26 : decode cX5_settle 26 = .ok (.iload_n 1, 1) := dk_27 (dk_at dksX5_settle_1 3 rfl rfl)
theorem dX5_settle_27 : decode cX5_settle 27 = .ok (.aload_n 0, 1) := dk_42 (dk_at dksX5_settle_1 4 rfl rfl)
theorem dX5_settle_28 : decode cX5_settle 28 = .ok (.getfield 79, 3) := dk_180 0 79 (dk_at dksX5_settle_1 5 rfl rfl)
theorem dX5_settle_31 : decode cX5_settle 31 = .ok (.getfield 363, 3) := dk_180 1 107 (dk_at dksX5_settle_1 8 rfl rfl)
theorem dX5_settle_34 : decode cX5_settle 34 = .ok (.iload_n 1, 1) := dk_27 (dk_at dksX5_settle_1 11 rfl rfl)
theorem dX5_settle_35 : decode cX5_settle 35 = .ok (.iaload, 1) := dk_46 (dk_at dksX5_settle_1 12 rfl rfl)
theorem dX5_settle_36 : decode cX5_settle 36 = .ok (.ifCond .le 7, 3) := dk_158 0 7 (dk_at dksX5_settle_1 13 rfl rfl)
theorem dX5_settle_39 : decode cX5_settle 39 = .ok (.iconst 1, 1) := dk_4 (dk_at dksX5_settle_1 16 rfl rfl)
theorem dX5_settle_40 : decode cX5_settle 40 = .ok (.goto 4, 3) := dk_167 0 4 (dk_at dksX5_settle_1 17 rfl rfl)
theorem dX5_settle_43 : decode cX5_settle 43 = .ok (.iconst 0, 1) := dk_3 (dk_at dksX5_settle_1 20 rfl rfl)
theorem dX5_settle_44 : decode cX5_settle 44 = .ok (.iastore, 1) := dk_79 (dk_at dksX5_settle_1 21 rfl rfl)
theorem dX5_settle_45 : decode cX5_settle 45 = .ok (.aload_n 0, 1) := dk_42 (dk_at dksX5_settle_1 22 rfl rfl)
theorem dX5_settle_46 : decode cX5_settle 46 = .ok (.getfield 79, 3) := dk_180 0 79 (dk_at dksX5_settle_2 0 rfl rfl)
theorem dX5_settle_49 : decode cX5_settle 49 = .ok (.getfield 296, 3) := dk_180 1 40 (dk_at dksX5_settle_2 3 rfl rfl)
theorem dX5_settle_52 : decode cX5_settle 52 = .ok (.iload_n 1, 1) := dk_27 (dk_at dksX5_settle_2 6 rfl rfl)
theorem dX5_settle_53 : decode cX5_settle 53 = .ok (.iaload, 1) := dk_46 (dk_at dksX5_settle_2 7 rfl rfl)
theorem dX5_settle_54 : decode cX5_settle 54 = .ok (.ifCond .ne 11, 3) := dk_154 0 11 (dk_at dksX5_settle_2 8 rfl rfl)
theorem dX5_settle_57 : decode cX5_settle 57 = .ok (.aload_n 0, 1) := dk_42 (dk_at dksX5_settle_2 11 rfl rfl)
theorem dX5_settle_58 : decode cX5_settle 58 = .ok (.getfield 71, 3) := dk_180 0 71 (dk_at dksX5_settle_2 12 rfl rfl)
theorem dX5_settle_61 : decode cX5_settle 61 = .ok (.iload_n 1, 1) := dk_27 (dk_at dksX5_settle_2 15 rfl rfl)
theorem dX5_settle_62 : decode cX5_settle 62 = .ok (.invokevirtual 287, 3) := dk_182 1 31 (dk_at dksX5_settle_2 16 rfl rfl)
theorem dX5_settle_65 : decode cX5_settle 65 = .ok (.iinc 1 1, 3) := dk_132 1 1 (dk_at dksX5_settle_2 19 rfl rfl)
theorem dX5_settle_68 : decode cX5_settle 68 = .ok (.goto (-60), 3) := dk_167 255 196 (dk_at dksX5_settle_3 0 rfl rfl)
theorem dX5_settle_71 : decode cX5_settle 71 = .ok (.aload_n 0, 1) := dk_42 (dk_at dksX5_settle_3 3 rfl rfl)
theorem dX5_settle_72 : decode cX5_settle 72 = .ok (.iconst 0, 1) := dk_3 (dk_at dksX5_settle_3 4 rfl rfl)
theorem dX5_settle_73 : decode cX5_settle 73 = .ok (.putfield 226, 3) := dk_181 0 226 (dk_at dksX5_settle_3 5 rfl rfl)
theorem dX5_settle_76 : decode cX5_settle 76 = .ok (.aload_n 0, 1) := dk_42 (dk_at dksX5_settle_3 8 rfl rfl)
theorem dX5_settle_77 : decode cX5_settle 77 = .ok (.dup, 1) := dk_89 (dk_at dksX5_settle_3 9 rfl rfl)
theorem dX5_settle_78 : decode cX5_settle 78 = .ok (.getfield 127, 3) := dk_180 0 127 (dk_at dksX5_settle_3 10 rfl rfl)
theorem dX5_settle_81 : decode cX5_settle 81 = .ok (.ldc2_w 562, 3) := dk_20 2 50 (dk_at dksX5_settle_3 13 rfl rfl)
theorem dX5_settle_84 : decode cX5_settle 84 = .ok (.ladd, 1) := dk_97 (dk_at dksX5_settle_3 16 rfl rfl)
theorem dX5_settle_85 : decode cX5_settle 85 = .ok (.putfield 127, 3) := dk_181 0 127 (dk_at dksX5_settle_3 17 rfl rfl)
theorem dX5_settle_88 : decode cX5_settle 88 = .ok (.aload_n 0, 1) := dk_42 (dk_at dksX5_settle_3 20 rfl rfl)
theorem dX5_settle_89 : decode cX5_settle 89 = .ok (.invokevirtual 229, 3) := dk_182 0 229 (dk_at dksX5_settle_3 21 rfl rfl)
theorem dX5_settle_92 : decode cX5_settle 92 = .ok (.return_, 1) := dk_177 (dk_at dksX5_settle_4 0 rfl rfl)
abbrev cX5_work : ByteArray := prog_9_method_34_code
def yX5_work : MethodName := ⟨RX5, "work", "()V"⟩
def dkwX5_work_4 : List UInt8 := [182, 1, 227, 177]
abbrev dktX5_work_4 : List UInt8 := dkwX5_work_4 ++ []
def dkwX5_work_3 : List UInt8 := [167, 0, 27, 42, 180, 0, 71, 182, 1, 221, 154, 0, 17, 42, 180, 0, 71, 182, 1, 224, 154, 0, 7, 42]
abbrev dktX5_work_3 : List UInt8 := dkwX5_work_3 ++ dktX5_work_4
def dkwX5_work_2 : List UInt8 := [2, 159, 0, 24, 42, 180, 1, 133, 153, 0, 17, 42, 180, 0, 206, 154, 0, 10, 42, 182, 1, 139]
abbrev dktX5_work_2 : List UInt8 := dkwX5_work_2 ++ dktX5_work_3
def dkwX5_work_1 : List UInt8 := [180, 1, 133, 154, 0, 17, 42, 182, 1, 218, 153, 0, 10, 42, 182, 1, 149, 167, 0, 56, 42, 180, 0, 58]
abbrev dktX5_work_1 : List UInt8 := dkwX5_work_1 ++ dktX5_work_2
def dkwX5_work_0 : List UInt8 := [42, 180, 1, 52, 153, 0, 10, 42, 182, 1, 136, 167, 0, 85, 42, 180, 0, 58, 2, 159, 0, 24, 42]
abbrev dktX5_work_0 : List UInt8 := dkwX5_work_0 ++ dktX5_work_1
theorem dksX5_work_0 : cX5_work.data.toList.drop 0 = dktX5_work_0 := by decide +kernel
theorem dksX5_work_1 : cX5_work.data.toList.drop 23 = dktX5_work_1 := dk_seg dksX5_work_0 23 rfl rfl
theorem dksX5_work_2 : cX5_work.data.toList.drop 47 = dktX5_work_2 := dk_seg dksX5_work_1 24 rfl rfl
theorem dksX5_work_3 : cX5_work.data.toList.drop 69 = dktX5_work_3 := dk_seg dksX5_work_2 22 rfl rfl
theorem dksX5_work_4 : cX5_work.data.toList.drop 93 = dktX5_work_4 := dk_seg dksX5_work_3 24 rfl rfl
theorem dX5_work_0 : decode cX5_work 0 = .ok (.aload_n 0, 1) := dk_42 (dk_at dksX5_work_0 0 rfl rfl)
theorem dX5_work_1 : decode cX5_work 1 = .ok (.getfield 308, 3) := dk_180 1 52 (dk_at dksX5_work_0 1 rfl rfl)
theorem dX5_work_4 : decode cX5_work 4 = .ok (.ifCond .eq 10, 3) := dk_153 0 10 (dk_at dksX5_work_0 4 rfl rfl)
theorem dX5_work_7 : decode cX5_work 7 = .ok (.aload_n 0, 1) := dk_42 (dk_at dksX5_work_0 7 rfl rfl)
theorem dX5_work_8 : decode cX5_work 8 = .ok (.invokevirtual 392, 3) := dk_182 1 136 (dk_at dksX5_work_0 8 rfl rfl)
theorem dX5_work_11 : decode cX5_work 11 = .ok (.goto 85, 3) := dk_167 0 85 (dk_at dksX5_work_0 11 rfl rfl)
theorem dX5_work_14 : decode cX5_work 14 = .ok (.aload_n 0, 1) := dk_42 (dk_at dksX5_work_0 14 rfl rfl)
theorem dX5_work_15 : decode cX5_work 15 = .ok (.getfield 58, 3) := dk_180 0 58 (dk_at dksX5_work_0 15 rfl rfl)
theorem dX5_work_18 : decode cX5_work 18 = .ok (.iconst (-1), 1) := dk_2 (dk_at dksX5_work_0 18 rfl rfl)
theorem dX5_work_19 : decode cX5_work 19 = .ok (.if_icmp .eq 24, 3) := dk_159 0 24 (dk_at dksX5_work_0 19 rfl rfl)
theorem dX5_work_22 : decode cX5_work 22 = .ok (.aload_n 0, 1) := dk_42 (dk_at dksX5_work_0 22 rfl rfl)
theorem dX5_work_23 : decode cX5_work 23 = .ok (.getfield 389, 3) := dk_180 1 133 (dk_at dksX5_work_1 0 rfl rfl)
theorem dX5_work_26 : decode cX5_work 26 = .ok (.ifCond .ne 17, 3) := dk_154 0 17 (dk_at dksX5_work_1 3 rfl rfl)
theorem dX5_work_29 : decode cX5_work 29 = .ok (.aload_n 0, 1) := dk_42 (dk_at dksX5_work_1 6 rfl rfl)
theorem dX5_work_30 : decode cX5_work 30 = .ok (.invokevirtual 474, 3) := dk_182 1 218 (dk_at dksX5_work_1 7 rfl rfl)
theorem dX5_work_33 : decode cX5_work 33 = .ok (.ifCond .eq 10, 3) := dk_153 0 10 (dk_at dksX5_work_1 10 rfl rfl)
theorem dX5_work_36 : decode cX5_work 36 = .ok (.aload_n 0, 1) := dk_42 (dk_at dksX5_work_1 13 rfl rfl)
theorem dX5_work_37 : decode cX5_work 37 = .ok (.invokevirtual 405, 3) := dk_182 1 149 (dk_at dksX5_work_1 14 rfl rfl)
theorem dX5_work_40 : decode cX5_work 40 = .ok (.goto 56, 3) := dk_167 0 56 (dk_at dksX5_work_1 17 rfl rfl)
theorem dX5_work_43 : decode cX5_work 43 = .ok (.aload_n 0, 1) := dk_42 (dk_at dksX5_work_1 20 rfl rfl)
theorem dX5_work_44 : decode cX5_work 44 = .ok (.getfield 58, 3) := dk_180 0 58 (dk_at dksX5_work_1 21 rfl rfl)
theorem dX5_work_47 : decode cX5_work 47 = .ok (.iconst (-1), 1) := dk_2 (dk_at dksX5_work_2 0 rfl rfl)
theorem dX5_work_48 : decode cX5_work 48 = .ok (.if_icmp .eq 24, 3) := dk_159 0 24 (dk_at dksX5_work_2 1 rfl rfl)
theorem dX5_work_51 : decode cX5_work 51 = .ok (.aload_n 0, 1) := dk_42 (dk_at dksX5_work_2 4 rfl rfl)
theorem dX5_work_52 : decode cX5_work 52 = .ok (.getfield 389, 3) := dk_180 1 133 (dk_at dksX5_work_2 5 rfl rfl)
theorem dX5_work_55 : decode cX5_work 55 = .ok (.ifCond .eq 17, 3) := dk_153 0 17 (dk_at dksX5_work_2 8 rfl rfl)
theorem dX5_work_58 : decode cX5_work 58 = .ok (.aload_n 0, 1) := dk_42 (dk_at dksX5_work_2 11 rfl rfl)
theorem dX5_work_59 : decode cX5_work 59 = .ok (.getfield 206, 3) := dk_180 0 206 (dk_at dksX5_work_2 12 rfl rfl)
theorem dX5_work_62 : decode cX5_work 62 = .ok (.ifCond .ne 10, 3) := dk_154 0 10 (dk_at dksX5_work_2 15 rfl rfl)
theorem dX5_work_65 : decode cX5_work 65 = .ok (.aload_n 0, 1) := dk_42 (dk_at dksX5_work_2 18 rfl rfl)
theorem dX5_work_66 : decode cX5_work 66 = .ok (.invokevirtual 395, 3) := dk_182 1 139 (dk_at dksX5_work_2 19 rfl rfl)
theorem dX5_work_69 : decode cX5_work 69 = .ok (.goto 27, 3) := dk_167 0 27 (dk_at dksX5_work_3 0 rfl rfl)
theorem dX5_work_72 : decode cX5_work 72 = .ok (.aload_n 0, 1) := dk_42 (dk_at dksX5_work_3 3 rfl rfl)
theorem dX5_work_73 : decode cX5_work 73 = .ok (.getfield 71, 3) := dk_180 0 71 (dk_at dksX5_work_3 4 rfl rfl)
theorem dX5_work_76 : decode cX5_work 76 = .ok (.invokevirtual 477, 3) := dk_182 1 221 (dk_at dksX5_work_3 7 rfl rfl)
theorem dX5_work_79 : decode cX5_work 79 = .ok (.ifCond .ne 17, 3) := dk_154 0 17 (dk_at dksX5_work_3 10 rfl rfl)
theorem dX5_work_82 : decode cX5_work 82 = .ok (.aload_n 0, 1) := dk_42 (dk_at dksX5_work_3 13 rfl rfl)
theorem dX5_work_83 : decode cX5_work 83 = .ok (.getfield 71, 3) := dk_180 0 71 (dk_at dksX5_work_3 14 rfl rfl)
theorem dX5_work_86 : decode cX5_work 86 = .ok (.invokevirtual 480, 3) := dk_182 1 224 (dk_at dksX5_work_3 17 rfl rfl)
theorem dX5_work_89 : decode cX5_work 89 = .ok (.ifCond .ne 7, 3) := dk_154 0 7 (dk_at dksX5_work_3 20 rfl rfl)
theorem dX5_work_92 : decode cX5_work 92 = .ok (.aload_n 0, 1) := dk_42 (dk_at dksX5_work_3 23 rfl rfl)
theorem dX5_work_93 : decode cX5_work 93 = .ok (.invokevirtual 483, 3) := dk_182 1 227 (dk_at dksX5_work_4 0 rfl rfl)
theorem dX5_work_96 : decode cX5_work 96 = .ok (.return_, 1) := dk_177 (dk_at dksX5_work_4 3 rfl rfl)
abbrev cX5_mayMove : ByteArray := prog_9_method_27_code
def yX5_mayMove : MethodName := ⟨RX5, "mayMove", "()Z"⟩
def dkwX5_mayMove_2 : List UInt8 := [167, 0, 4, 3, 172]
abbrev dktX5_mayMove_2 : List UInt8 := dkwX5_mayMove_2 ++ []
def dkwX5_mayMove_1 : List UInt8 := [4, 96, 164, 0, 25, 42, 180, 0, 79, 182, 1, 155, 5, 42, 180, 0, 102, 104, 5, 96, 164, 0, 7, 4]
abbrev dktX5_mayMove_1 : List UInt8 := dkwX5_mayMove_1 ++ dktX5_mayMove_2
def dkwX5_mayMove_0 : List UInt8 := [42, 180, 0, 121, 17, 1, 64, 182, 0, 187, 154, 0, 37, 42, 180, 0, 79, 182, 1, 13, 42, 180, 0, 102]
abbrev dktX5_mayMove_0 : List UInt8 := dkwX5_mayMove_0 ++ dktX5_mayMove_1
theorem dksX5_mayMove_0 : cX5_mayMove.data.toList.drop 0 = dktX5_mayMove_0 := by decide +kernel
theorem dksX5_mayMove_1 : cX5_mayMove.data.toList.drop 24 = dktX5_mayMove_1 := dk_seg dksX5_mayMove_0 24 rfl rfl
theorem dksX5_mayMove_2 : cX5_mayMove.data.toList.drop 48 = dktX5_mayMove_2 := dk_seg dksX5_mayMove_1 24 rfl rfl
theorem dX5_mayMove_0 : decode cX5_mayMove 0 = .ok (.aload_n 0, 1) := dk_42 (dk_at dksX5_mayMove_0 0 rfl rfl)
theorem dX5_mayMove_1 : decode cX5_mayMove 1 = .ok (.getfield 121, 3) := dk_180 0 121 (dk_at dksX5_mayMove_0 1 rfl rfl)
theorem dX5_mayMove_4 : decode cX5_mayMove 4 = .ok (.sipush 320, 3) := dk_17 1 64 (dk_at dksX5_mayMove_0 4 rfl rfl)
theorem dX5_mayMove_7 : decode cX5_mayMove 7 = .ok (.invokevirtual 187, 3) := dk_182 0 187 (dk_at dksX5_mayMove_0 7 rfl rfl)
theorem dX5_mayMove_10 : decode cX5_mayMove 10 = .ok (.ifCond .ne 37, 3) := dk_154 0 37 (dk_at dksX5_mayMove_0 10 rfl rfl)
theorem dX5_mayMove_13 : decode cX5_mayMove 13 = .ok (.aload_n 0, 1) := dk_42 (dk_at dksX5_mayMove_0 13 rfl rfl)
theorem dX5_mayMove_14 : decode cX5_mayMove 14 = .ok (.getfield 79, 3) := dk_180 0 79 (dk_at dksX5_mayMove_0 14 rfl rfl)
theorem dX5_mayMove_17 : decode cX5_mayMove 17 = .ok (.invokevirtual 269, 3) := dk_182 1 13 (dk_at dksX5_mayMove_0 17 rfl rfl)
theorem dX5_mayMove_20 : decode cX5_mayMove 20 = .ok (.aload_n 0, 1) := dk_42 (dk_at dksX5_mayMove_0 20 rfl rfl)
theorem dX5_mayMove_21 : decode cX5_mayMove 21 = .ok (.getfield 102, 3) := dk_180 0 102 (dk_at dksX5_mayMove_0 21 rfl rfl)
theorem dX5_mayMove_24 : decode cX5_mayMove 24 = .ok (.iconst 1, 1) := dk_4 (dk_at dksX5_mayMove_1 0 rfl rfl)
theorem dX5_mayMove_25 : decode cX5_mayMove 25 = .ok (.iadd, 1) := dk_96 (dk_at dksX5_mayMove_1 1 rfl rfl)
theorem dX5_mayMove_26 : decode cX5_mayMove 26 = .ok (.if_icmp .le 25, 3) := dk_164 0 25 (dk_at dksX5_mayMove_1 2 rfl rfl)
theorem dX5_mayMove_29 : decode cX5_mayMove 29 = .ok (.aload_n 0, 1) := dk_42 (dk_at dksX5_mayMove_1 5 rfl rfl)
theorem dX5_mayMove_30 : decode cX5_mayMove 30 = .ok (.getfield 79, 3) := dk_180 0 79 (dk_at dksX5_mayMove_1 6 rfl rfl)
theorem dX5_mayMove_33 : decode cX5_mayMove 33 = .ok (.invokevirtual 411, 3) := dk_182 1 155 (dk_at dksX5_mayMove_1 9 rfl rfl)
theorem dX5_mayMove_36 : decode cX5_mayMove 36 = .ok (.iconst 2, 1) := dk_5 (dk_at dksX5_mayMove_1 12 rfl rfl)
theorem dX5_mayMove_37 : decode cX5_mayMove 37 = .ok (.aload_n 0, 1) := dk_42 (dk_at dksX5_mayMove_1 13 rfl rfl)
theorem dX5_mayMove_38 : decode cX5_mayMove 38 = .ok (.getfield 102, 3) := dk_180 0 102 (dk_at dksX5_mayMove_1 14 rfl rfl)
theorem dX5_mayMove_41 : decode cX5_mayMove 41 = .ok (.imul, 1) := dk_104 (dk_at dksX5_mayMove_1 17 rfl rfl)
theorem dX5_mayMove_42 : decode cX5_mayMove 42 = .ok (.iconst 2, 1) := dk_5 (dk_at dksX5_mayMove_1 18 rfl rfl)
theorem dX5_mayMove_43 : decode cX5_mayMove 43 = .ok (.iadd, 1) := dk_96 (dk_at dksX5_mayMove_1 19 rfl rfl)
theorem dX5_mayMove_44 : decode cX5_mayMove 44 = .ok (.if_icmp .le 7, 3) := dk_164 0 7 (dk_at dksX5_mayMove_1 20 rfl rfl)
theorem dX5_mayMove_47 : decode cX5_mayMove 47 = .ok (.iconst 1, 1) := dk_4 (dk_at dksX5_mayMove_1 23 rfl rfl)
theorem dX5_mayMove_48 : decode cX5_mayMove 48 = .ok (.goto 4, 3) := dk_167 0 4 (dk_at dksX5_mayMove_2 0 rfl rfl)
theorem dX5_mayMove_51 : decode cX5_mayMove 51 = .ok (.iconst 0, 1) := dk_3 (dk_at dksX5_mayMove_2 3 rfl rfl)
theorem dX5_mayMove_52 : decode cX5_mayMove 52 = .ok (.ireturn, 1) := dk_172 (dk_at dksX5_mayMove_2 4 rfl rfl)
abbrev cX5_choose : ByteArray := prog_9_method_35_code
def yX5_choose : MethodName := ⟨RX5, "choose", "()V"⟩
def dkwX5_choose_2 : List UInt8 := [162, 0, 16, 42, 4, 182, 1, 145, 153, 0, 8, 42, 3, 181, 1, 133, 177]
abbrev dktX5_choose_2 : List UInt8 := dkwX5_choose_2 ++ []
def dkwX5_choose_1 : List UInt8 := [180, 0, 58, 2, 160, 0, 35, 42, 180, 0, 79, 182, 1, 13, 42, 180, 0, 71, 180, 0, 83, 6, 108]
abbrev dktX5_choose_1 : List UInt8 := dkwX5_choose_1 ++ dktX5_choose_2
def dkwX5_choose_0 : List UInt8 := [42, 180, 0, 206, 154, 0, 18, 42, 180, 0, 226, 6, 161, 0, 10, 42, 182, 1, 139, 167, 0, 43, 42]
abbrev dktX5_choose_0 : List UInt8 := dkwX5_choose_0 ++ dktX5_choose_1
theorem dksX5_choose_0 : cX5_choose.data.toList.drop 0 = dktX5_choose_0 := by decide +kernel
theorem dksX5_choose_1 : cX5_choose.data.toList.drop 23 = dktX5_choose_1 := dk_seg dksX5_choose_0 23 rfl rfl
theorem dksX5_choose_2 : cX5_choose.data.toList.drop 46 = dktX5_choose_2 := dk_seg dksX5_choose_1 23 rfl rfl
theorem dX5_choose_0 : decode cX5_choose 0 = .ok (.aload_n 0, 1) := dk_42 (dk_at dksX5_choose_0 0 rfl rfl)
theorem dX5_choose_1 : decode cX5_choose 1 = .ok (.getfield 206, 3) := dk_180 0 206 (dk_at dksX5_choose_0 1 rfl rfl)
theorem dX5_choose_4 : decode cX5_choose 4 = .ok (.ifCond .ne 18, 3) := dk_154 0 18 (dk_at dksX5_choose_0 4 rfl rfl)
theorem dX5_choose_7 : decode cX5_choose 7 = .ok (.aload_n 0, 1) := dk_42 (dk_at dksX5_choose_0 7 rfl rfl)
theorem dX5_choose_8 : decode cX5_choose 8 = .ok (.getfield 226, 3) := dk_180 0 226 (dk_at dksX5_choose_0 8 rfl rfl)
theorem dX5_choose_11 : decode cX5_choose 11 = .ok (.iconst 3, 1) := dk_6 (dk_at dksX5_choose_0 11 rfl rfl)
theorem dX5_choose_12 : decode cX5_choose 12 = .ok (.if_icmp .lt 10, 3) := dk_161 0 10 (dk_at dksX5_choose_0 12 rfl rfl)
theorem dX5_choose_15 : decode cX5_choose 15 = .ok (.aload_n 0, 1) := dk_42 (dk_at dksX5_choose_0 15 rfl rfl)
theorem dX5_choose_16 : decode cX5_choose 16 = .ok (.invokevirtual 395, 3) := dk_182 1 139 (dk_at dksX5_choose_0 16 rfl rfl)
theorem dX5_choose_19 : decode cX5_choose 19 = .ok (.goto 43, 3) := dk_167 0 43 (dk_at dksX5_choose_0 19 rfl rfl)
theorem dX5_choose_22 : decode cX5_choose 22 = .ok (.aload_n 0, 1) := dk_42 (dk_at dksX5_choose_0 22 rfl rfl)
theorem dX5_choose_23 : decode cX5_choose 23 = .ok (.getfield 58, 3) := dk_180 0 58 (dk_at dksX5_choose_1 0 rfl rfl)
theorem dX5_choose_26 : decode cX5_choose 26 = .ok (.iconst (-1), 1) := dk_2 (dk_at dksX5_choose_1 3 rfl rfl)
theorem dX5_choose_27 : decode cX5_choose 27 = .ok (.if_icmp .ne 35, 3) := dk_160 0 35 (dk_at dksX5_choose_1 4 rfl rfl)
theorem dX5_choose_30 : decode cX5_choose 30 = .ok (.aload_n 0, 1) := dk_42 (dk_at dksX5_choose_1 7 rfl rfl)
theorem dX5_choose_31 : decode cX5_choose 31 = .ok (.getfield 79, 3) := dk_180 0 79 (dk_at dksX5_choose_1 8 rfl rfl)
theorem dX5_choose_34 : decode cX5_choose 34 = .ok (.invokevirtual 269, 3) := dk_182 1 13 (dk_at dksX5_choose_1 11 rfl rfl)
theorem dX5_choose_37 : decode cX5_choose 37 = .ok (.aload_n 0, 1) := dk_42 (dk_at dksX5_choose_1 14 rfl rfl)
theorem dX5_choose_38 : decode cX5_choose 38 = .ok (.getfield 71, 3) := dk_180 0 71 (dk_at dksX5_choose_1 15 rfl rfl)
theorem dX5_choose_41 : decode cX5_choose 41 = .ok (.getfield 83, 3) := dk_180 0 83 (dk_at dksX5_choose_1 18 rfl rfl)
theorem dX5_choose_44 : decode cX5_choose 44 = .ok (.iconst 3, 1) := dk_6 (dk_at dksX5_choose_1 21 rfl rfl)
theorem dX5_choose_45 : decode cX5_choose 45 = .ok (.idiv, 1) := dk_108 (dk_at dksX5_choose_1 22 rfl rfl)
theorem dX5_choose_46 : decode cX5_choose 46 = .ok (.if_icmp .ge 16, 3) := dk_162 0 16 (dk_at dksX5_choose_2 0 rfl rfl)
theorem dX5_choose_49 : decode cX5_choose 49 = .ok (.aload_n 0, 1) := dk_42 (dk_at dksX5_choose_2 3 rfl rfl)
theorem dX5_choose_50 : decode cX5_choose 50 = .ok (.iconst 1, 1) := dk_4 (dk_at dksX5_choose_2 4 rfl rfl)
theorem dX5_choose_51 : decode cX5_choose 51 = .ok (.invokevirtual 401, 3) := dk_182 1 145 (dk_at dksX5_choose_2 5 rfl rfl)
theorem dX5_choose_54 : decode cX5_choose 54 = .ok (.ifCond .eq 8, 3) := dk_153 0 8 (dk_at dksX5_choose_2 8 rfl rfl)
theorem dX5_choose_57 : decode cX5_choose 57 = .ok (.aload_n 0, 1) := dk_42 (dk_at dksX5_choose_2 11 rfl rfl)
theorem dX5_choose_58 : decode cX5_choose 58 = .ok (.iconst 0, 1) := dk_3 (dk_at dksX5_choose_2 12 rfl rfl)
theorem dX5_choose_59 : decode cX5_choose 59 = .ok (.putfield 389, 3) := dk_181 1 133 (dk_at dksX5_choose_2 13 rfl rfl)
theorem dX5_choose_62 : decode cX5_choose 62 = .ok (.return_, 1) := dk_177 (dk_at dksX5_choose_2 16 rfl rfl)
abbrev cX5_place : ByteArray := prog_9_method_4_code
def yX5_place : MethodName := ⟨RX5, "place", "()I"⟩
def dkwX5_place_1 : List UInt8 := [180, 0, 117, 180, 0, 134, 172]
abbrev dktX5_place_1 : List UInt8 := dkwX5_place_1 ++ []
def dkwX5_place_0 : List UInt8 := [42, 180, 0, 117, 180, 0, 131, 2, 160, 0, 13, 42, 180, 0, 79, 180, 0, 96, 167, 0, 10, 42]
abbrev dktX5_place_0 : List UInt8 := dkwX5_place_0 ++ dktX5_place_1
theorem dksX5_place_0 : cX5_place.data.toList.drop 0 = dktX5_place_0 := by decide +kernel
theorem dksX5_place_1 : cX5_place.data.toList.drop 22 = dktX5_place_1 := dk_seg dksX5_place_0 22 rfl rfl
theorem dX5_place_0 : decode cX5_place 0 = .ok (.aload_n 0, 1) := dk_42 (dk_at dksX5_place_0 0 rfl rfl)
theorem dX5_place_1 : decode cX5_place 1 = .ok (.getfield 117, 3) := dk_180 0 117 (dk_at dksX5_place_0 1 rfl rfl)
theorem dX5_place_4 : decode cX5_place 4 = .ok (.getfield 131, 3) := dk_180 0 131 (dk_at dksX5_place_0 4 rfl rfl)
theorem dX5_place_7 : decode cX5_place 7 = .ok (.iconst (-1), 1) := dk_2 (dk_at dksX5_place_0 7 rfl rfl)
theorem dX5_place_8 : decode cX5_place 8 = .ok (.if_icmp .ne 13, 3) := dk_160 0 13 (dk_at dksX5_place_0 8 rfl rfl)
theorem dX5_place_11 : decode cX5_place 11 = .ok (.aload_n 0, 1) := dk_42 (dk_at dksX5_place_0 11 rfl rfl)
theorem dX5_place_12 : decode cX5_place 12 = .ok (.getfield 79, 3) := dk_180 0 79 (dk_at dksX5_place_0 12 rfl rfl)
theorem dX5_place_15 : decode cX5_place 15 = .ok (.getfield 96, 3) := dk_180 0 96 (dk_at dksX5_place_0 15 rfl rfl)
theorem dX5_place_18 : decode cX5_place 18 = .ok (.goto 10, 3) := dk_167 0 10 (dk_at dksX5_place_0 18 rfl rfl)
theorem dX5_place_21 : decode cX5_place 21 = .ok (.aload_n 0, 1) := dk_42 (dk_at dksX5_place_0 21 rfl rfl)
theorem dX5_place_22 : decode cX5_place 22 = .ok (.getfield 117, 3) := dk_180 0 117 (dk_at dksX5_place_1 0 rfl rfl)
theorem dX5_place_25 : decode cX5_place 25 = .ok (.getfield 134, 3) := dk_180 0 134 (dk_at dksX5_place_1 3 rfl rfl)
theorem dX5_place_28 : decode cX5_place 28 = .ok (.ireturn, 1) := dk_172 (dk_at dksX5_place_1 6 rfl rfl)
abbrev cX5_isSound : ByteArray := prog_9_method_49_code
def yX5_isSound : MethodName := ⟨RX5, "isSound", "([I)Z"⟩
def dkwX5_isSound_14 : List UInt8 := [154, 0, 7, 4, 167, 0, 4, 3, 126, 61, 132, 3, 1, 167, 255, 188, 28, 172]
abbrev dktX5_isSound_14 : List UInt8 := dkwX5_isSound_14 ++ []
def dkwX5_isSound_13 : List UInt8 := [180, 0, 79, 180, 0, 96, 163, 0, 25, 42, 180, 0, 79, 180, 1, 40, 29, 46, 154, 0, 9, 43, 29, 46]
abbrev dktX5_isSound_13 : List UInt8 := dkwX5_isSound_13 ++ dktX5_isSound_14
def dkwX5_isSound_12 : List UInt8 := [162, 0, 63, 28, 43, 29, 46, 42, 180, 0, 79, 180, 1, 107, 29, 46, 160, 0, 38, 43, 29, 46, 42]
abbrev dktX5_isSound_12 : List UInt8 := dkwX5_isSound_12 ++ dktX5_isSound_13
def dkwX5_isSound_11 : List UInt8 := [182, 2, 75, 62, 167, 255, 109, 42, 180, 0, 79, 180, 0, 86, 62, 29, 42, 180, 0, 71, 180, 0, 83]
abbrev dktX5_isSound_11 : List UInt8 := dkwX5_isSound_11 ++ dktX5_isSound_12
def dkwX5_isSound_10 : List UInt8 := [61, 43, 42, 180, 0, 108, 180, 1, 196, 92, 46, 42, 180, 0, 108, 180, 2, 74, 96, 79, 42, 180, 0, 108]
abbrev dktX5_isSound_10 : List UInt8 := dkwX5_isSound_10 ++ dktX5_isSound_11
def dkwX5_isSound_9 : List UInt8 := [42, 180, 0, 16, 184, 1, 189, 42, 180, 0, 108, 180, 2, 48, 148, 154, 0, 7, 4, 167, 0, 4, 3, 126]
abbrev dktX5_isSound_9 : List UInt8 := dkwX5_isSound_9 ++ dktX5_isSound_10
def dkwX5_isSound_8 : List UInt8 := [184, 1, 182, 153, 0, 43, 42, 180, 0, 16, 184, 1, 185, 42, 180, 0, 108, 180, 2, 46, 148, 154, 0, 25]
abbrev dktX5_isSound_8 : List UInt8 := dkwX5_isSound_8 ++ dktX5_isSound_9
def dkwX5_isSound_7 : List UInt8 := [42, 180, 0, 16, 182, 0, 176, 42, 180, 0, 108, 180, 2, 74, 160, 0, 56, 42, 180, 0, 16, 182, 1, 168]
abbrev dktX5_isSound_7 : List UInt8 := dkwX5_isSound_7 ++ dktX5_isSound_8
def dkwX5_isSound_6 : List UInt8 := [180, 2, 74, 42, 180, 0, 16, 182, 0, 173, 28, 42, 180, 0, 16, 17, 1, 64, 182, 0, 180, 153, 0, 73]
abbrev dktX5_isSound_6 : List UInt8 := dkwX5_isSound_6 ++ dktX5_isSound_7
def dkwX5_isSound_5 : List UInt8 := [153, 0, 149, 42, 42, 180, 0, 108, 180, 1, 196, 42, 180, 0, 108, 180, 1, 197, 42, 180, 0, 108]
abbrev dktX5_isSound_5 : List UInt8 := dkwX5_isSound_5 ++ dktX5_isSound_6
def dkwX5_isSound_4 : List UInt8 := [180, 0, 44, 92, 46, 42, 180, 1, 116, 96, 79, 4, 61, 42, 180, 0, 108, 9, 9, 182, 2, 43, 62, 29]
abbrev dktX5_isSound_4 : List UInt8 := dkwX5_isSound_4 ++ dktX5_isSound_5
def dkwX5_isSound_3 : List UInt8 := [96, 79, 132, 2, 1, 167, 255, 219, 42, 42, 180, 0, 108, 180, 1, 16, 43, 182, 2, 70, 43, 42]
abbrev dktX5_isSound_3 : List UInt8 := dkwX5_isSound_3 ++ dktX5_isSound_4
def dkwX5_isSound_2 : List UInt8 := [162, 0, 32, 43, 42, 180, 0, 108, 180, 2, 64, 28, 46, 92, 46, 42, 180, 0, 108, 180, 2, 67, 28, 46]
abbrev dktX5_isSound_2 : List UInt8 := dkwX5_isSound_2 ++ dktX5_isSound_3
def dkwX5_isSound_1 : List UInt8 := [182, 2, 55, 154, 0, 5, 3, 172, 43, 3, 184, 2, 58, 3, 61, 28, 42, 180, 0, 108, 180, 2, 61]
abbrev dktX5_isSound_1 : List UInt8 := dkwX5_isSound_1 ++ dktX5_isSound_2
def dkwX5_isSound_0 : List UInt8 := [42, 180, 0, 71, 182, 2, 52, 153, 0, 21, 42, 180, 0, 108, 42, 180, 0, 108, 180, 1, 16, 4]
abbrev dktX5_isSound_0 : List UInt8 := dkwX5_isSound_0 ++ dktX5_isSound_1
theorem dksX5_isSound_0 : cX5_isSound.data.toList.drop 0 = dktX5_isSound_0 := by decide +kernel
theorem dksX5_isSound_1 : cX5_isSound.data.toList.drop 22 = dktX5_isSound_1 := dk_seg dksX5_isSound_0 22 rfl rfl
theorem dksX5_isSound_2 : cX5_isSound.data.toList.drop 45 = dktX5_isSound_2 := dk_seg dksX5_isSound_1 23 rfl rfl
theorem dksX5_isSound_3 : cX5_isSound.data.toList.drop 69 = dktX5_isSound_3 := dk_seg dksX5_isSound_2 24 rfl rfl
theorem dksX5_isSound_4 : cX5_isSound.data.toList.drop 91 = dktX5_isSound_4 := dk_seg dksX5_isSound_3 22 rfl rfl
theorem dksX5_isSound_5 : cX5_isSound.data.toList.drop 115 = dktX5_isSound_5 := dk_seg dksX5_isSound_4 24 rfl rfl
theorem dksX5_isSound_6 : cX5_isSound.data.toList.drop 137 = dktX5_isSound_6 := dk_seg dksX5_isSound_5 22 rfl rfl
theorem dksX5_isSound_7 : cX5_isSound.data.toList.drop 161 = dktX5_isSound_7 := dk_seg dksX5_isSound_6 24 rfl rfl
theorem dksX5_isSound_8 : cX5_isSound.data.toList.drop 185 = dktX5_isSound_8 := dk_seg dksX5_isSound_7 24 rfl rfl
theorem dksX5_isSound_9 : cX5_isSound.data.toList.drop 209 = dktX5_isSound_9 := dk_seg dksX5_isSound_8 24 rfl rfl
theorem dksX5_isSound_10 : cX5_isSound.data.toList.drop 233 = dktX5_isSound_10 := dk_seg dksX5_isSound_9 24 rfl rfl
theorem dksX5_isSound_11 : cX5_isSound.data.toList.drop 257 = dktX5_isSound_11 := dk_seg dksX5_isSound_10 24 rfl rfl
theorem dksX5_isSound_12 : cX5_isSound.data.toList.drop 280 = dktX5_isSound_12 := dk_seg dksX5_isSound_11 23 rfl rfl
theorem dksX5_isSound_13 : cX5_isSound.data.toList.drop 303 = dktX5_isSound_13 := dk_seg dksX5_isSound_12 23 rfl rfl
theorem dksX5_isSound_14 : cX5_isSound.data.toList.drop 327 = dktX5_isSound_14 := dk_seg dksX5_isSound_13 24 rfl rfl
theorem dX5_isSound_0 : decode cX5_isSound 0 = .ok (.aload_n 0, 1) := dk_42 (dk_at dksX5_isSound_0 0 rfl rfl)
theorem dX5_isSound_1 : decode cX5_isSound 1 = .ok (.getfield 71, 3) := dk_180 0 71 (dk_at dksX5_isSound_0 1 rfl rfl)
theorem dX5_isSound_4 : decode cX5_isSound 4 = .ok (.invokevirtual 564, 3) := dk_182 2 52 (dk_at dksX5_isSound_0 4 rfl rfl)
theorem dX5_isSound_7 : decode cX5_isSound 7 = .ok (.ifCond .eq 21, 3) := dk_153 0 21 (dk_at dksX5_isSound_0 7 rfl rfl)
theorem dX5_isSound_10 : decode cX5_isSound 10 = .ok (.aload_n 0, 1) := dk_42 (dk_at dksX5_isSound_0 10 rfl rfl)
theorem dX5_isSound_11 : decode cX5_isSound 11 = .ok (.getfield 108, 3) := dk_180 0 108 (dk_at dksX5_isSound_0 11 rfl rfl)
theorem dX5_isSound_14 : decode cX5_isSound 14 = .ok (.aload_n 0, 1) := dk_42 (dk_at dksX5_isSound_0 14 rfl rfl)
theorem dX5_isSound_15 : decode cX5_isSound 15 = .ok (.getfield 108, 3) := dk_180 0 108 (dk_at dksX5_isSound_0 15 rfl rfl)
theorem dX5_isSound_18 : decode cX5_isSound 18 = .ok (.getfield 272, 3) := dk_180 1 16 (dk_at dksX5_isSound_0 18 rfl rfl)
theorem dX5_isSound_21 : decode cX5_isSound 21 = .ok (.iconst 1, 1) := dk_4 (dk_at dksX5_isSound_0 21 rfl rfl)
theorem dX5_isSound_22 : decode cX5_isSound 22 = .ok (.invokevirtual 567, 3) := dk_182 2 55 (dk_at dksX5_isSound_1 0 rfl rfl)
theorem dX5_isSound_25 : decode cX5_isSound 25 = .ok (.ifCond .ne 5, 3) := dk_154 0 5 (dk_at dksX5_isSound_1 3 rfl rfl)
theorem dX5_isSound_28 : decode cX5_isSound 28 = .ok (.iconst 0, 1) := dk_3 (dk_at dksX5_isSound_1 6 rfl rfl)
theorem dX5_isSound_29 : decode cX5_isSound 29 = .ok (.ireturn, 1) := dk_172 (dk_at dksX5_isSound_1 7 rfl rfl)
theorem dX5_isSound_30 : decode cX5_isSound 30 = .ok (.aload_n 1, 1) := dk_43 (dk_at dksX5_isSound_1 8 rfl rfl)
theorem dX5_isSound_31 : decode cX5_isSound 31 = .ok (.iconst 0, 1) := dk_3 (dk_at dksX5_isSound_1 9 rfl rfl)
theorem dX5_isSound_32 : decode cX5_isSound 32 = .ok (.invokestatic 570, 3) := dk_184 2 58 (dk_at dksX5_isSound_1 10 rfl rfl)
theorem dX5_isSound_35 : decode cX5_isSound 35 = .ok (.iconst 0, 1) := dk_3 (dk_at dksX5_isSound_1 13 rfl rfl)
theorem dX5_isSound_36 : decode cX5_isSound 36 = .ok (.istore_n 2, 1) := dk_61 (dk_at dksX5_isSound_1 14 rfl rfl)
theorem dX5_isSound_37 : decode cX5_isSound 37 = .ok (.iload_n 2, 1) := dk_28 (dk_at dksX5_isSound_1 15 rfl rfl)
theorem dX5_isSound_38 : decode cX5_isSound 38 = .ok (.aload_n 0, 1) := dk_42 (dk_at dksX5_isSound_1 16 rfl rfl)
theorem dX5_isSound_39 : decode cX5_isSound 39 = .ok (.getfield 108, 3) := dk_180 0 108 (dk_at dksX5_isSound_1 17 rfl rfl)
theorem dX5_isSound_42 : decode cX5_isSound 42 = .ok (.getfield 573, 3) := dk_180 2 61 (dk_at dksX5_isSound_1 20 rfl rfl)
theorem dX5_isSound_45 : decode cX5_isSound 45 = .ok (.if_icmp .ge 32, 3) := dk_162 0 32 (dk_at dksX5_isSound_2 0 rfl rfl)
theorem dX5_isSound_48 : decode cX5_isSound 48 = .ok (.aload_n 1, 1) := dk_43 (dk_at dksX5_isSound_2 3 rfl rfl)
theorem dX5_isSound_49 : decode cX5_isSound 49 = .ok (.aload_n 0, 1) := dk_42 (dk_at dksX5_isSound_2 4 rfl rfl)
theorem dX5_isSound_50 : decode cX5_isSound 50 = .ok (.getfield 108, 3) := dk_180 0 108 (dk_at dksX5_isSound_2 5 rfl rfl)
theorem dX5_isSound_53 : decode cX5_isSound 53 = .ok (.getfield 576, 3) := dk_180 2 64 (dk_at dksX5_isSound_2 8 rfl rfl)
theorem dX5_isSound_56 : decode cX5_isSound 56 = .ok (.iload_n 2, 1) := dk_28 (dk_at dksX5_isSound_2 11 rfl rfl)
theorem dX5_isSound_57 : decode cX5_isSound 57 = .ok (.iaload, 1) := dk_46 (dk_at dksX5_isSound_2 12 rfl rfl)
theorem dX5_isSound_58 : decode cX5_isSound 58 = .ok (.dup2, 1) := dk_92 (dk_at dksX5_isSound_2 13 rfl rfl)
theorem dX5_isSound_59 : decode cX5_isSound 59 = .ok (.iaload, 1) := dk_46 (dk_at dksX5_isSound_2 14 rfl rfl)
theorem dX5_isSound_60 : decode cX5_isSound 60 = .ok (.aload_n 0, 1) := dk_42 (dk_at dksX5_isSound_2 15 rfl rfl)
theorem dX5_isSound_61 : decode cX5_isSound 61 = .ok (.getfield 108, 3) := dk_180 0 108 (dk_at dksX5_isSound_2 16 rfl rfl)
theorem dX5_isSound_64 : decode cX5_isSound 64 = .ok (.getfield 579, 3) := dk_180 2 67 (dk_at dksX5_isSound_2 19 rfl rfl)
theorem dX5_isSound_67 : decode cX5_isSound 67 = .ok (.iload_n 2, 1) := dk_28 (dk_at dksX5_isSound_2 22 rfl rfl)
theorem dX5_isSound_68 : decode cX5_isSound 68 = .ok (.iaload, 1) := dk_46 (dk_at dksX5_isSound_2 23 rfl rfl)
theorem dX5_isSound_69 : decode cX5_isSound 69 = .ok (.iadd, 1) := dk_96 (dk_at dksX5_isSound_3 0 rfl rfl)
theorem dX5_isSound_70 : decode cX5_isSound 70 = .ok (.iastore, 1) := dk_79 (dk_at dksX5_isSound_3 1 rfl rfl)
theorem dX5_isSound_71 : decode cX5_isSound 71 = .ok (.iinc 2 1, 3) := dk_132 2 1 (dk_at dksX5_isSound_3 2 rfl rfl)
theorem dX5_isSound_74 : decode cX5_isSound 74 = .ok (.goto (-37), 3) := dk_167 255 219 (dk_at dksX5_isSound_3 5 rfl rfl)
theorem dX5_isSound_77 : decode cX5_isSound 77 = .ok (.aload_n 0, 1) := dk_42 (dk_at dksX5_isSound_3 8 rfl rfl)
theorem dX5_isSound_78 : decode cX5_isSound 78 = .ok (.aload_n 0, 1) := dk_42 (dk_at dksX5_isSound_3 9 rfl rfl)
theorem dX5_isSound_79 : decode cX5_isSound 79 = .ok (.getfield 108, 3) := dk_180 0 108 (dk_at dksX5_isSound_3 10 rfl rfl)
theorem dX5_isSound_82 : decode cX5_isSound 82 = .ok (.getfield 272, 3) := dk_180 1 16 (dk_at dksX5_isSound_3 13 rfl rfl)
theorem dX5_isSound_85 : decode cX5_isSound 85 = .ok (.aload_n 1, 1) := dk_43 (dk_at dksX5_isSound_3 16 rfl rfl)
theorem dX5_isSound_86 : decode cX5_isSound 86 = .ok (.invokevirtual 582, 3) := dk_182 2 70 (dk_at dksX5_isSound_3 17 rfl rfl)
theorem dX5_isSound_89 : decode cX5_isSound 89 = .ok (.aload_n 1, 1) := dk_43 (dk_at dksX5_isSound_3 20 rfl rfl)
theorem dX5_isSound_90 : decode cX5_isSound 90 = .ok (.aload_n 0, 1) := dk_42 (dk_at dksX5_isSound_3 21 rfl rfl)
theorem dX5_isSound_91 : decode cX5_isSound 91 = .ok (.getfield 44, 3) := dk_180 0 44 (dk_at dksX5_isSound_4 0 rfl rfl)
theorem dX5_isSound_94 : decode cX5_isSound 94 = .ok (.dup2, 1) := dk_92 (dk_at dksX5_isSound_4 3 rfl rfl)
theorem dX5_isSound_95 : decode cX5_isSound 95 = .ok (.iaload, 1) := dk_46 (dk_at dksX5_isSound_4 4 rfl rfl)
theorem dX5_isSound_96 : decode cX5_isSound 96 = .ok (.aload_n 0, 1) := dk_42 (dk_at dksX5_isSound_4 5 rfl rfl)
theorem dX5_isSound_97 : decode cX5_isSound 97 = .ok (.getfield 372, 3) := dk_180 1 116 (dk_at dksX5_isSound_4 6 rfl rfl)
theorem dX5_isSound_100 : decode cX5_isSound 100 = .ok (.iadd, 1) := dk_96 (dk_at dksX5_isSound_4 9 rfl rfl)
theorem dX5_isSound_101 : decode cX5_isSound 101 = .ok (.iastore, 1) := dk_79 (dk_at dksX5_isSound_4 10 rfl rfl)
theorem dX5_isSound_102 : decode cX5_isSound 102 = .ok (.iconst 1, 1) := dk_4 (dk_at dksX5_isSound_4 11 rfl rfl)
theorem dX5_isSound_103 : decode cX5_isSound 103 = .ok (.istore_n 2, 1) := dk_61 (dk_at dksX5_isSound_4 12 rfl rfl)
theorem dX5_isSound_104 : decode cX5_isSound 104 = .ok (.aload_n 0, 1) := dk_42 (dk_at dksX5_isSound_4 13 rfl rfl)
theorem dX5_isSound_105 : decode cX5_isSound 105 = .ok (.getfield 108, 3) := dk_180 0 108 (dk_at dksX5_isSound_4 14 rfl rfl)
theorem dX5_isSound_108 : decode cX5_isSound 108 = .ok (.lconst 0, 1) := dk_9 (dk_at dksX5_isSound_4 17 rfl rfl)
theorem dX5_isSound_109 : decode cX5_isSound 109 = .ok (.lconst 0, 1) := dk_9 (dk_at dksX5_isSound_4 18 rfl rfl)
theorem dX5_isSound_110 : decode cX5_isSound 110 = .ok (.invokevirtual 555, 3) := dk_182 2 43 (dk_at dksX5_isSound_4 19 rfl rfl)
theorem dX5_isSound_113 : decode cX5_isSound 113 = .ok (.istore_n 3, 1) := dk_62 (dk_at dksX5_isSound_4 22 rfl rfl)
theorem dX5_isSound_114 : decode cX5_isSound 114 = .ok (.iload_n 3, 1) := dk_29 (dk_at dksX5_isSound_4 23 rfl rfl)
theorem dX5_isSound_115 : decode cX5_isSound 115 = .ok (.ifCond .eq 149, 3) := dk_153 0 149 (dk_at dksX5_isSound_5 0 rfl rfl)
theorem dX5_isSound_118 : decode cX5_isSound 118 = .ok (.aload_n 0, 1) := dk_42 (dk_at dksX5_isSound_5 3 rfl rfl)
theorem dX5_isSound_119 : decode cX5_isSound 119 = .ok (.aload_n 0, 1) := dk_42 (dk_at dksX5_isSound_5 4 rfl rfl)
theorem dX5_isSound_120 : decode cX5_isSound 120 = .ok (.getfield 108, 3) := dk_180 0 108 (dk_at dksX5_isSound_5 5 rfl rfl)
theorem dX5_isSound_123 : decode cX5_isSound 123 = .ok (.getfield 452, 3) := dk_180 1 196 (dk_at dksX5_isSound_5 8 rfl rfl)
theorem dX5_isSound_126 : decode cX5_isSound 126 = .ok (.aload_n 0, 1) := dk_42 (dk_at dksX5_isSound_5 11 rfl rfl)
theorem dX5_isSound_127 : decode cX5_isSound 127 = .ok (.getfield 108, 3) := dk_180 0 108 (dk_at dksX5_isSound_5 12 rfl rfl)
theorem dX5_isSound_130 : decode cX5_isSound 130 = .ok (.getfield 453, 3) := dk_180 1 197 (dk_at dksX5_isSound_5 15 rfl rfl)
theorem dX5_isSound_133 : decode cX5_isSound 133 = .ok (.aload_n 0, 1) := dk_42 (dk_at dksX5_isSound_5 18 rfl rfl)
theorem dX5_isSound_134 : decode cX5_isSound 134 = .ok (.getfield 108, 3) := dk_180 0 108 (dk_at dksX5_isSound_5 19 rfl rfl)
theorem dX5_isSound_137 : decode cX5_isSound 137 = .ok (.getfield 586, 3) := dk_180 2 74 (dk_at dksX5_isSound_6 0 rfl rfl)
theorem dX5_isSound_140 : decode cX5_isSound 140 = .ok (.aload_n 0, 1) := dk_42 (dk_at dksX5_isSound_6 3 rfl rfl)
theorem dX5_isSound_141 : decode cX5_isSound 141 = .ok (.getfield 16, 3) := dk_180 0 16 (dk_at dksX5_isSound_6 4 rfl rfl)
theorem dX5_isSound_144 : decode cX5_isSound 144 = .ok (.invokevirtual 173, 3) := dk_182 0 173 (dk_at dksX5_isSound_6 7 rfl rfl)
theorem dX5_isSound_147 : decode cX5_isSound 147 = .ok (.iload_n 2, 1) := dk_28 (dk_at dksX5_isSound_6 10 rfl rfl)
theorem dX5_isSound_148 : decode cX5_isSound 148 = .ok (.aload_n 0, 1) := dk_42 (dk_at dksX5_isSound_6 11 rfl rfl)
theorem dX5_isSound_149 : decode cX5_isSound 149 = .ok (.getfield 16, 3) := dk_180 0 16 (dk_at dksX5_isSound_6 12 rfl rfl)
theorem dX5_isSound_152 : decode cX5_isSound 152 = .ok (.sipush 320, 3) := dk_17 1 64 (dk_at dksX5_isSound_6 15 rfl rfl)
theorem dX5_isSound_155 : decode cX5_isSound 155 = .ok (.invokevirtual 180, 3) := dk_182 0 180 (dk_at dksX5_isSound_6 18 rfl rfl)
theorem dX5_isSound_158 : decode cX5_isSound 158 = .ok (.ifCond .eq 73, 3) := dk_153 0 73 (dk_at dksX5_isSound_6 21 rfl rfl)
theorem dX5_isSound_161 : decode cX5_isSound 161 = .ok (.aload_n 0, 1) := dk_42 (dk_at dksX5_isSound_7 0 rfl rfl)
theorem dX5_isSound_162 : decode cX5_isSound 162 = .ok (.getfield 16, 3) := dk_180 0 16 (dk_at dksX5_isSound_7 1 rfl rfl)
theorem dX5_isSound_165 : decode cX5_isSound 165 = .ok (.invokevirtual 176, 3) := dk_182 0 176 (dk_at dksX5_isSound_7 4 rfl rfl)
theorem dX5_isSound_168 : decode cX5_isSound 168 = .ok (.aload_n 0, 1) := dk_42 (dk_at dksX5_isSound_7 7 rfl rfl)
theorem dX5_isSound_169 : decode cX5_isSound 169 = .ok (.getfield 108, 3) := dk_180 0 108 (dk_at dksX5_isSound_7 8 rfl rfl)
theorem dX5_isSound_172 : decode cX5_isSound 172 = .ok (.getfield 586, 3) := dk_180 2 74 (dk_at dksX5_isSound_7 11 rfl rfl)
theorem dX5_isSound_175 : decode cX5_isSound 175 = .ok (.if_icmp .ne 56, 3) := dk_160 0 56 (dk_at dksX5_isSound_7 14 rfl rfl)
theorem dX5_isSound_178 : decode cX5_isSound 178 = .ok (.aload_n 0, 1) := dk_42 (dk_at dksX5_isSound_7 17 rfl rfl)
theorem dX5_isSound_179 : decode cX5_isSound 179 = .ok (.getfield 16, 3) := dk_180 0 16 (dk_at dksX5_isSound_7 18 rfl rfl)
theorem dX5_isSound_182 : decode cX5_isSound 182 = .ok (.invokevirtual 424, 3) := dk_182 1 168 (dk_at dksX5_isSound_7 21 rfl rfl)
theorem dX5_isSound_185 : decode cX5_isSound 185 = .ok (.invokestatic 438, 3) := dk_184 1 182 (dk_at dksX5_isSound_8 0 rfl rfl)
theorem dX5_isSound_188 : decode cX5_isSound 188 = .ok (.ifCond .eq 43, 3) := dk_153 0 43 (dk_at dksX5_isSound_8 3 rfl rfl)
theorem dX5_isSound_191 : decode cX5_isSound 191 = .ok (.aload_n 0, 1) := dk_42 (dk_at dksX5_isSound_8 6 rfl rfl)
theorem dX5_isSound_192 : decode cX5_isSound 192 = .ok (.getfield 16, 3) := dk_180 0 16 (dk_at dksX5_isSound_8 7 rfl rfl)
theorem dX5_isSound_195 : decode cX5_isSound 195 = .ok (.invokestatic 441, 3) := dk_184 1 185 (dk_at dksX5_isSound_8 10 rfl rfl)
theorem dX5_isSound_198 : decode cX5_isSound 198 = .ok (.aload_n 0, 1) := dk_42 (dk_at dksX5_isSound_8 13 rfl rfl)
theorem dX5_isSound_199 : decode cX5_isSound 199 = .ok (.getfield 108, 3) := dk_180 0 108 (dk_at dksX5_isSound_8 14 rfl rfl)
theorem dX5_isSound_202 : decode cX5_isSound 202 = .ok (.getfield 558, 3) := dk_180 2 46 (dk_at dksX5_isSound_8 17 rfl rfl)
theorem dX5_isSound_205 : decode cX5_isSound 205 = .ok (.lcmp, 1) := dk_148 (dk_at dksX5_isSound_8 20 rfl rfl)
theorem dX5_isSound_206 : decode cX5_isSound 206 = .ok (.ifCond .ne 25, 3) := dk_154 0 25 (dk_at dksX5_isSound_8 21 rfl rfl)
theorem dX5_isSound_209 : decode cX5_isSound 209 = .ok (.aload_n 0, 1) := dk_42 (dk_at dksX5_isSound_9 0 rfl rfl)
theorem dX5_isSound_210 : decode cX5_isSound 210 = .ok (.getfield 16, 3) := dk_180 0 16 (dk_at dksX5_isSound_9 1 rfl rfl)
theorem dX5_isSound_213 : decode cX5_isSound 213 = .ok (.invokestatic 445, 3) := dk_184 1 189 (dk_at dksX5_isSound_9 4 rfl rfl)
theorem dX5_isSound_216 : decode cX5_isSound 216 = .ok (.aload_n 0, 1) := dk_42 (dk_at dksX5_isSound_9 7 rfl rfl)
theorem dX5_isSound_217 : decode cX5_isSound 217 = .ok (.getfield 108, 3) := dk_180 0 108 (dk_at dksX5_isSound_9 8 rfl rfl)
theorem dX5_isSound_220 : decode cX5_isSound 220 = .ok (.getfield 560, 3) := dk_180 2 48 (dk_at dksX5_isSound_9 11 rfl rfl)
theorem dX5_isSound_223 : decode cX5_isSound 223 = .ok (.lcmp, 1) := dk_148 (dk_at dksX5_isSound_9 14 rfl rfl)
theorem dX5_isSound_224 : decode cX5_isSound 224 = .ok (.ifCond .ne 7, 3) := dk_154 0 7 (dk_at dksX5_isSound_9 15 rfl rfl)
theorem dX5_isSound_227 : decode cX5_isSound 227 = .ok (.iconst 1, 1) := dk_4 (dk_at dksX5_isSound_9 18 rfl rfl)
theorem dX5_isSound_228 : decode cX5_isSound 228 = .ok (.goto 4, 3) := dk_167 0 4 (dk_at dksX5_isSound_9 19 rfl rfl)
theorem dX5_isSound_231 : decode cX5_isSound 231 = .ok (.iconst 0, 1) := dk_3 (dk_at dksX5_isSound_9 22 rfl rfl)
theorem dX5_isSound_232 : decode cX5_isSound 232 = .ok (.iand, 1) := dk_126 (dk_at dksX5_isSound_9 23 rfl rfl)
theorem dX5_isSound_233 : decode cX5_isSound 233 = .ok (.istore_n 2, 1) := dk_61 (dk_at dksX5_isSound_10 0 rfl rfl)
theorem dX5_isSound_234 : decode cX5_isSound 234 = .ok (.aload_n 1, 1) := dk_43 (dk_at dksX5_isSound_10 1 rfl rfl)
theorem dX5_isSound_235 : decode cX5_isSound 235 = .ok (.aload_n 0, 1) := dk_42 (dk_at dksX5_isSound_10 2 rfl rfl)
theorem dX5_isSound_236 : decode cX5_isSound 236 = .ok (.getfield 108, 3) := dk_180 0 108 (dk_at dksX5_isSound_10 3 rfl rfl)
theorem dX5_isSound_239 : decode cX5_isSound 239 = .ok (.getfield 452, 3) := dk_180 1 196 (dk_at dksX5_isSound_10 6 rfl rfl)
theorem dX5_isSound_242 : decode cX5_isSound 242 = .ok (.dup2, 1) := dk_92 (dk_at dksX5_isSound_10 9 rfl rfl)
theorem dX5_isSound_243 : decode cX5_isSound 243 = .ok (.iaload, 1) := dk_46 (dk_at dksX5_isSound_10 10 rfl rfl)
theorem dX5_isSound_244 : decode cX5_isSound 244 = .ok (.aload_n 0, 1) := dk_42 (dk_at dksX5_isSound_10 11 rfl rfl)
theorem dX5_isSound_245 : decode cX5_isSound 245 = .ok (.getfield 108, 3) := dk_180 0 108 (dk_at dksX5_isSound_10 12 rfl rfl)
theorem dX5_isSound_248 : decode cX5_isSound 248 = .ok (.getfield 586, 3) := dk_180 2 74 (dk_at dksX5_isSound_10 15 rfl rfl)
theorem dX5_isSound_251 : decode cX5_isSound 251 = .ok (.iadd, 1) := dk_96 (dk_at dksX5_isSound_10 18 rfl rfl)
theorem dX5_isSound_252 : decode cX5_isSound 252 = .ok (.iastore, 1) := dk_79 (dk_at dksX5_isSound_10 19 rfl rfl)
theorem dX5_isSound_253 : decode cX5_isSound 253 = .ok (.aload_n 0, 1) := dk_42 (dk_at dksX5_isSound_10 20 rfl rfl)
theorem dX5_isSound_254 : decode cX5_isSound 254 = .ok (.getfield 108, 3) := dk_180 0 108 (dk_at dksX5_isSound_10 21 rfl rfl)
theorem dX5_isSound_257 : decode cX5_isSound 257 = .ok (.invokevirtual 587, 3) := dk_182 2 75 (dk_at dksX5_isSound_11 0 rfl rfl)
theorem dX5_isSound_260 : decode cX5_isSound 260 = .ok (.istore_n 3, 1) := dk_62 (dk_at dksX5_isSound_11 3 rfl rfl)
theorem dX5_isSound_261 : decode cX5_isSound 261 = .ok (.goto (-147), 3) := dk_167 255 109 (dk_at dksX5_isSound_11 4 rfl rfl)
theorem dX5_isSound_264 : decode cX5_isSound 264 = .ok (.aload_n 0, 1) := dk_42 (dk_at dksX5_isSound_11 7 rfl rfl)
theorem dX5_isSound_265 : decode cX5_isSound 265 = .ok (.getfield 79, 3) := dk_180 0 79 (dk_at dksX5_isSound_11 8 rfl rfl)
theorem dX5_isSound_268 : decode cX5_isSound 268 = .ok (.getfield 86, 3) := dk_180 0 86 (dk_at dksX5_isSound_11 11 rfl rfl)
theorem dX5_isSound_271 : decode cX5_isSound 271 = .ok (.istore_n 3, 1) := dk_62 (dk_at dksX5_isSound_11 14 rfl rfl)
theorem dX5_isSound_272 : decode cX5_isSound 272 = .ok (.iload_n 3, 1) := dk_29 (dk_at dksX5_isSound_11 15 rfl rfl)
theorem dX5_isSound_273 : decode cX5_isSound 273 = .ok (.aload_n 0, 1) := dk_42 (dk_at dksX5_isSound_11 16 rfl rfl)
theorem dX5_isSound_274 : decode cX5_isSound 274 = .ok (.getfield 71, 3) := dk_180 0 71 (dk_at dksX5_isSound_11 17 rfl rfl)
theorem dX5_isSound_277 : decode cX5_isSound 277 = .ok (.getfield 83, 3) := dk_180 0 83 (dk_at dksX5_isSound_11 20 rfl rfl)
theorem dX5_isSound_280 : decode cX5_isSound 280 = .ok (.if_icmp .ge 63, 3) := dk_162 0 63 (dk_at dksX5_isSound_12 0 rfl rfl)
theorem dX5_isSound_283 : decode cX5_isSound 283 = .ok (.iload_n 2, 1) := dk_28 (dk_at dksX5_isSound_12 3 rfl rfl)
theorem dX5_isSound_284 : decode cX5_isSound 284 = .ok (.aload_n 1, 1) := dk_43 (dk_at dksX5_isSound_12 4 rfl rfl)
theorem dX5_isSound_285 : decode cX5_isSound 285 = .ok (.iload_n 3, 1) := dk_29 (dk_at dksX5_isSound_12 5 rfl rfl)
theorem dX5_isSound_286 : decode cX5_isSound 286 = .ok (.iaload, 1) := dk_46 (dk_at dksX5_isSound_12 6 rfl rfl)
theorem dX5_isSound_287 : decode cX5_isSound 287 = .ok (.aload_n 0, 1) := dk_42 (dk_at dksX5_isSound_12 7 rfl rfl)
theorem dX5_isSound_288 : decode cX5_isSound 288 = .ok (.getfield 79, 3) := dk_180 0 79 (dk_at dksX5_isSound_12 8 rfl rfl)
theorem dX5_isSound_291 : decode cX5_isSound 291 = .ok (.getfield 363, 3) := dk_180 1 107 (dk_at dksX5_isSound_12 11 rfl rfl)
theorem dX5_isSound_294 : decode cX5_isSound 294 = .ok (.iload_n 3, 1) := dk_29 (dk_at dksX5_isSound_12 14 rfl rfl)
theorem dX5_isSound_295 : decode cX5_isSound 295 = .ok (.iaload, 1) := dk_46 (dk_at dksX5_isSound_12 15 rfl rfl)
theorem dX5_isSound_296 : decode cX5_isSound 296 = .ok (.if_icmp .ne 38, 3) := dk_160 0 38 (dk_at dksX5_isSound_12 16 rfl rfl)
theorem dX5_isSound_299 : decode cX5_isSound 299 = .ok (.aload_n 1, 1) := dk_43 (dk_at dksX5_isSound_12 19 rfl rfl)
theorem dX5_isSound_300 : decode cX5_isSound 300 = .ok (.iload_n 3, 1) := dk_29 (dk_at dksX5_isSound_12 20 rfl rfl)
theorem dX5_isSound_301 : decode cX5_isSound 301 = .ok (.iaload, 1) := dk_46 (dk_at dksX5_isSound_12 21 rfl rfl)
theorem dX5_isSound_302 : decode cX5_isSound 302 = .ok (.aload_n 0, 1) := dk_42 (dk_at dksX5_isSound_12 22 rfl rfl)
theorem dX5_isSound_303 : decode cX5_isSound 303 = .ok (.getfield 79, 3) := dk_180 0 79 (dk_at dksX5_isSound_13 0 rfl rfl)
theorem dX5_isSound_306 : decode cX5_isSound 306 = .ok (.getfield 96, 3) := dk_180 0 96 (dk_at dksX5_isSound_13 3 rfl rfl)
theorem dX5_isSound_309 : decode cX5_isSound 309 = .ok (.if_icmp .gt 25, 3) := dk_163 0 25 (dk_at dksX5_isSound_13 6 rfl rfl)
theorem dX5_isSound_312 : decode cX5_isSound 312 = .ok (.aload_n 0, 1) := dk_42 (dk_at dksX5_isSound_13 9 rfl rfl)
theorem dX5_isSound_313 : decode cX5_isSound 313 = .ok (.getfield 79, 3) := dk_180 0 79 (dk_at dksX5_isSound_13 10 rfl rfl)
theorem dX5_isSound_316 : decode cX5_isSound 316 = .ok (.getfield 296, 3) := dk_180 1 40 (dk_at dksX5_isSound_13 13 rfl rfl)
theorem dX5_isSound_319 : decode cX5_isSound 319 = .ok (.iload_n 3, 1) := dk_29 (dk_at dksX5_isSound_13 16 rfl rfl)
theorem dX5_isSound_320 : decode cX5_isSound 320 = .ok (.iaload, 1) := dk_46 (dk_at dksX5_isSound_13 17 rfl rfl)
theorem dX5_isSound_321 : decode cX5_isSound 321 = .ok (.ifCond .ne 9, 3) := dk_154 0 9 (dk_at dksX5_isSound_13 18 rfl rfl)
theorem dX5_isSound_324 : decode cX5_isSound 324 = .ok (.aload_n 1, 1) := dk_43 (dk_at dksX5_isSound_13 21 rfl rfl)
theorem dX5_isSound_325 : decode cX5_isSound 325 = .ok (.iload_n 3, 1) := dk_29 (dk_at dksX5_isSound_13 22 rfl rfl)
theorem dX5_isSound_326 : decode cX5_isSound 326 = .ok (.iaload, 1) := dk_46 (dk_at dksX5_isSound_13 23 rfl rfl)
theorem dX5_isSound_327 : decode cX5_isSound 327 = .ok (.ifCond .ne 7, 3) := dk_154 0 7 (dk_at dksX5_isSound_14 0 rfl rfl)
theorem dX5_isSound_330 : decode cX5_isSound 330 = .ok (.iconst 1, 1) := dk_4 (dk_at dksX5_isSound_14 3 rfl rfl)
theorem dX5_isSound_331 : decode cX5_isSound 331 = .ok (.goto 4, 3) := dk_167 0 4 (dk_at dksX5_isSound_14 4 rfl rfl)
theorem dX5_isSound_334 : decode cX5_isSound 334 = .ok (.iconst 0, 1) := dk_3 (dk_at dksX5_isSound_14 7 rfl rfl)
theorem dX5_isSound_335 : decode cX5_isSound 335 = .ok (.iand, 1) := dk_126 (dk_at dksX5_isSound_14 8 rfl rfl)
theorem dX5_isSound_336 : decode cX5_isSound 336 = .ok (.istore_n 2, 1) := dk_61 (dk_at dksX5_isSound_14 9 rfl rfl)
theorem dX5_isSound_337 : decode cX5_isSound 337 = .ok (.iinc 3 1, 3) := dk_132 3 1 (dk_at dksX5_isSound_14 10 rfl rfl)
theorem dX5_isSound_340 : decode cX5_isSound 340 = .ok (.goto (-68), 3) := dk_167 255 188 (dk_at dksX5_isSound_14 13 rfl rfl)
theorem dX5_isSound_343 : decode cX5_isSound 343 = .ok (.iload_n 2, 1) := dk_28 (dk_at dksX5_isSound_14 16 rfl rfl)
theorem dX5_isSound_344 : decode cX5_isSound 344 = .ok (.ireturn, 1) := dk_172 (dk_at dksX5_isSound_14 17 rfl rfl)
abbrev cX5_addKnots : ByteArray := prog_9_method_50_code
def yX5_addKnots : MethodName := ⟨RX5, "addKnots", "(LNandHouse$Knot;[I)V"⟩
def dkwX5_addKnots_2 : List UInt8 := [132, 3, 1, 167, 255, 227, 177]
abbrev dktX5_addKnots_2 : List UInt8 := dkwX5_addKnots_2 ++ []
def dkwX5_addKnots_1 : List UInt8 := [180, 1, 56, 162, 0, 27, 43, 180, 1, 59, 158, 0, 20, 42, 43, 180, 1, 62, 29, 50, 44, 182, 2, 70]
abbrev dktX5_addKnots_1 : List UInt8 := dkwX5_addKnots_1 ++ dktX5_addKnots_2
def dkwX5_addKnots_0 : List UInt8 := [43, 180, 1, 65, 154, 0, 16, 44, 43, 180, 1, 90, 92, 46, 43, 180, 1, 100, 96, 79, 3, 62, 29, 43]
abbrev dktX5_addKnots_0 : List UInt8 := dkwX5_addKnots_0 ++ dktX5_addKnots_1
theorem dksX5_addKnots_0 : cX5_addKnots.data.toList.drop 0 = dktX5_addKnots_0 := by decide +kernel
theorem dksX5_addKnots_1 : cX5_addKnots.data.toList.drop 24 = dktX5_addKnots_1 := dk_seg dksX5_addKnots_0 24 rfl rfl
theorem dksX5_addKnots_2 : cX5_addKnots.data.toList.drop 48 = dktX5_addKnots_2 := dk_seg dksX5_addKnots_1 24 rfl rfl
theorem dX5_addKnots_0 : decode cX5_addKnots 0 = .ok (.aload_n 1, 1) := dk_43 (dk_at dksX5_addKnots_0 0 rfl rfl)
theorem dX5_addKnots_1 : decode cX5_addKnots 1 = .ok (.getfield 321, 3) := dk_180 1 65 (dk_at dksX5_addKnots_0 1 rfl rfl)
theorem dX5_addKnots_4 : decode cX5_addKnots 4 = .ok (.ifCond .ne 16, 3) := dk_154 0 16 (dk_at dksX5_addKnots_0 4 rfl rfl)
theorem dX5_addKnots_7 : decode cX5_addKnots 7 = .ok (.aload_n 2, 1) := dk_44 (dk_at dksX5_addKnots_0 7 rfl rfl)
theorem dX5_addKnots_8 : decode cX5_addKnots 8 = .ok (.aload_n 1, 1) := dk_43 (dk_at dksX5_addKnots_0 8 rfl rfl)
theorem dX5_addKnots_9 : decode cX5_addKnots 9 = .ok (.getfield 346, 3) := dk_180 1 90 (dk_at dksX5_addKnots_0 9 rfl rfl)
theorem dX5_addKnots_12 : decode cX5_addKnots 12 = .ok (.dup2, 1) := dk_92 (dk_at dksX5_addKnots_0 12 rfl rfl)
theorem dX5_addKnots_13 : decode cX5_addKnots 13 = .ok (.iaload, 1) := dk_46 (dk_at dksX5_addKnots_0 13 rfl rfl)
theorem dX5_addKnots_14 : decode cX5_addKnots 14 = .ok (.aload_n 1, 1) := dk_43 (dk_at dksX5_addKnots_0 14 rfl rfl)
theorem dX5_addKnots_15 : decode cX5_addKnots 15 = .ok (.getfield 356, 3) := dk_180 1 100 (dk_at dksX5_addKnots_0 15 rfl rfl)
theorem dX5_addKnots_18 : decode cX5_addKnots 18 = .ok (.iadd, 1) := dk_96 (dk_at dksX5_addKnots_0 18 rfl rfl)
theorem dX5_addKnots_19 : decode cX5_addKnots 19 = .ok (.iastore, 1) := dk_79 (dk_at dksX5_addKnots_0 19 rfl rfl)
theorem dX5_addKnots_20 : decode cX5_addKnots 20 = .ok (.iconst 0, 1) := dk_3 (dk_at dksX5_addKnots_0 20 rfl rfl)
theorem dX5_addKnots_21 : decode cX5_addKnots 21 = .ok (.istore_n 3, 1) := dk_62 (dk_at dksX5_addKnots_0 21 rfl rfl)
theorem dX5_addKnots_22 : decode cX5_addKnots 22 = .ok (.iload_n 3, 1) := dk_29 (dk_at dksX5_addKnots_0 22 rfl rfl)
theorem dX5_addKnots_23 : decode cX5_addKnots 23 = .ok (.aload_n 1, 1) := dk_43 (dk_at dksX5_addKnots_0 23 rfl rfl)
theorem dX5_addKnots_24 : decode cX5_addKnots 24 = .ok (.getfield 312, 3) := dk_180 1 56 (dk_at dksX5_addKnots_1 0 rfl rfl)
theorem dX5_addKnots_27 : decode cX5_addKnots 27 = .ok (.if_icmp .ge 27, 3) := dk_162 0 27 (dk_at dksX5_addKnots_1 3 rfl rfl)
theorem dX5_addKnots_30 : decode cX5_addKnots 30 = .ok (.aload_n 1, 1) := dk_43 (dk_at dksX5_addKnots_1 6 rfl rfl)
theorem dX5_addKnots_31 : decode cX5_addKnots 31 = .ok (.getfield 315, 3) := dk_180 1 59 (dk_at dksX5_addKnots_1 7 rfl rfl)
theorem dX5_addKnots_34 : decode cX5_addKnots 34 = .ok (.ifCond .le 20, 3) := dk_158 0 20 (dk_at dksX5_addKnots_1 10 rfl rfl)
theorem dX5_addKnots_37 : decode cX5_addKnots 37 = .ok (.aload_n 0, 1) := dk_42 (dk_at dksX5_addKnots_1 13 rfl rfl)
theorem dX5_addKnots_38 : decode cX5_addKnots 38 = .ok (.aload_n 1, 1) := dk_43 (dk_at dksX5_addKnots_1 14 rfl rfl)
theorem dX5_addKnots_39 : decode cX5_addKnots 39 = .ok (.getfield 318, 3) := dk_180 1 62 (dk_at dksX5_addKnots_1 15 rfl rfl)
theorem dX5_addKnots_42 : decode cX5_addKnots 42 = .ok (.iload_n 3, 1) := dk_29 (dk_at dksX5_addKnots_1 18 rfl rfl)
theorem dX5_addKnots_43 : decode cX5_addKnots 43 = .ok (.aaload, 1) := dk_50 (dk_at dksX5_addKnots_1 19 rfl rfl)
theorem dX5_addKnots_44 : decode cX5_addKnots 44 = .ok (.aload_n 2, 1) := dk_44 (dk_at dksX5_addKnots_1 20 rfl rfl)
theorem dX5_addKnots_45 : decode cX5_addKnots 45 = .ok (.invokevirtual 582, 3) := dk_182 2 70 (dk_at dksX5_addKnots_1 21 rfl rfl)
theorem dX5_addKnots_48 : decode cX5_addKnots 48 = .ok (.iinc 3 1, 3) := dk_132 3 1 (dk_at dksX5_addKnots_2 0 rfl rfl)
theorem dX5_addKnots_51 : decode cX5_addKnots 51 = .ok (.goto (-29), 3) := dk_167 255 227 (dk_at dksX5_addKnots_2 3 rfl rfl)
theorem dX5_addKnots_54 : decode cX5_addKnots 54 = .ok (.return_, 1) := dk_177 (dk_at dksX5_addKnots_2 6 rfl rfl)
abbrev cX5_isLike : ByteArray := prog_9_method_51_code
def yX5_isLike : MethodName := ⟨RX5, "isLike", "(LNandHouse$Store;)Z"⟩
def dkwX5_isLike_11 : List UInt8 := [3, 172]
abbrev dktX5_isLike_11 : List UInt8 := dkwX5_isLike_11 ++ []
def dkwX5_isLike_10 : List UInt8 := [126, 62, 167, 255, 49, 29, 153, 0, 18, 42, 180, 0, 30, 43, 180, 0, 30, 160, 0, 7, 4, 167, 0, 4]
abbrev dktX5_isLike_10 : List UInt8 := dkwX5_isLike_10 ++ dktX5_isLike_11
def dkwX5_isLike_9 : List UInt8 := [180, 0, 108, 182, 2, 75, 61, 29, 28, 43, 180, 0, 108, 182, 2, 75, 160, 0, 7, 4, 167, 0, 4, 3]
abbrev dktX5_isLike_9 : List UInt8 := dkwX5_isLike_9 ++ dktX5_isLike_10
def dkwX5_isLike_8 : List UInt8 := [180, 0, 158, 21, 4, 51, 160, 0, 7, 4, 167, 0, 4, 3, 62, 132, 4, 1, 167, 255, 208, 42]
abbrev dktX5_isLike_8 : List UInt8 := dkwX5_isLike_8 ++ dktX5_isLike_9
def dkwX5_isLike_7 : List UInt8 := [180, 2, 74, 162, 0, 42, 29, 153, 0, 38, 42, 180, 0, 16, 180, 0, 158, 21, 4, 51, 43, 180, 0, 16]
abbrev dktX5_isLike_7 : List UInt8 := dkwX5_isLike_7 ++ dktX5_isLike_8
def dkwX5_isLike_6 : List UInt8 := [180, 0, 108, 180, 2, 74, 43, 180, 0, 16, 182, 0, 173, 16, 24, 54, 4, 21, 4, 42, 180, 0, 108]
abbrev dktX5_isLike_6 : List UInt8 := dkwX5_isLike_6 ++ dktX5_isLike_7
def dkwX5_isLike_5 : List UInt8 := [42, 180, 0, 16, 182, 0, 173, 43, 43, 180, 0, 108, 180, 1, 196, 43, 180, 0, 108, 180, 1, 197, 43]
abbrev dktX5_isLike_5 : List UInt8 := dkwX5_isLike_5 ++ dktX5_isLike_6
def dkwX5_isLike_4 : List UInt8 := [3, 62, 42, 42, 180, 0, 108, 180, 1, 196, 42, 180, 0, 108, 180, 1, 197, 42, 180, 0, 108, 180, 2, 74]
abbrev dktX5_isLike_4 : List UInt8 := dkwX5_isLike_4 ++ dktX5_isLike_5
def dkwX5_isLike_3 : List UInt8 := [154, 0, 24, 42, 180, 0, 108, 180, 2, 74, 43, 180, 0, 108, 180, 2, 74, 160, 0, 7, 4, 167, 0, 4]
abbrev dktX5_isLike_3 : List UInt8 := dkwX5_isLike_3 ++ dktX5_isLike_4
def dkwX5_isLike_2 : List UInt8 := [180, 2, 46, 148, 154, 0, 42, 42, 180, 0, 108, 180, 2, 48, 43, 180, 0, 108, 180, 2, 48, 148]
abbrev dktX5_isLike_2 : List UInt8 := dkwX5_isLike_2 ++ dktX5_isLike_3
def dkwX5_isLike_1 : List UInt8 := [167, 0, 4, 3, 62, 28, 153, 0, 209, 29, 153, 0, 205, 42, 180, 0, 108, 180, 2, 46, 43, 180, 0, 108]
abbrev dktX5_isLike_1 : List UInt8 := dkwX5_isLike_1 ++ dktX5_isLike_2
def dkwX5_isLike_0 : List UInt8 := [42, 180, 0, 108, 9, 9, 182, 2, 43, 61, 28, 43, 180, 0, 108, 9, 9, 182, 2, 43, 160, 0, 7, 4]
abbrev dktX5_isLike_0 : List UInt8 := dkwX5_isLike_0 ++ dktX5_isLike_1
theorem dksX5_isLike_0 : cX5_isLike.data.toList.drop 0 = dktX5_isLike_0 := by decide +kernel
theorem dksX5_isLike_1 : cX5_isLike.data.toList.drop 24 = dktX5_isLike_1 := dk_seg dksX5_isLike_0 24 rfl rfl
theorem dksX5_isLike_2 : cX5_isLike.data.toList.drop 48 = dktX5_isLike_2 := dk_seg dksX5_isLike_1 24 rfl rfl
theorem dksX5_isLike_3 : cX5_isLike.data.toList.drop 70 = dktX5_isLike_3 := dk_seg dksX5_isLike_2 22 rfl rfl
theorem dksX5_isLike_4 : cX5_isLike.data.toList.drop 94 = dktX5_isLike_4 := dk_seg dksX5_isLike_3 24 rfl rfl
theorem dksX5_isLike_5 : cX5_isLike.data.toList.drop 118 = dktX5_isLike_5 := dk_seg dksX5_isLike_4 24 rfl rfl
theorem dksX5_isLike_6 : cX5_isLike.data.toList.drop 141 = dktX5_isLike_6 := dk_seg dksX5_isLike_5 23 rfl rfl
theorem dksX5_isLike_7 : cX5_isLike.data.toList.drop 164 = dktX5_isLike_7 := dk_seg dksX5_isLike_6 23 rfl rfl
theorem dksX5_isLike_8 : cX5_isLike.data.toList.drop 188 = dktX5_isLike_8 := dk_seg dksX5_isLike_7 24 rfl rfl
theorem dksX5_isLike_9 : cX5_isLike.data.toList.drop 210 = dktX5_isLike_9 := dk_seg dksX5_isLike_8 22 rfl rfl
theorem dksX5_isLike_10 : cX5_isLike.data.toList.drop 234 = dktX5_isLike_10 := dk_seg dksX5_isLike_9 24 rfl rfl
theorem dksX5_isLike_11 : cX5_isLike.data.toList.drop 258 = dktX5_isLike_11 := dk_seg dksX5_isLike_10 24 rfl rfl
theorem dX5_isLike_0 : decode cX5_isLike 0 = .ok (.aload_n 0, 1) := dk_42 (dk_at dksX5_isLike_0 0 rfl rfl)
theorem dX5_isLike_1 : decode cX5_isLike 1 = .ok (.getfield 108, 3) := dk_180 0 108 (dk_at dksX5_isLike_0 1 rfl rfl)
theorem dX5_isLike_4 : decode cX5_isLike 4 = .ok (.lconst 0, 1) := dk_9 (dk_at dksX5_isLike_0 4 rfl rfl)
theorem dX5_isLike_5 : decode cX5_isLike 5 = .ok (.lconst 0, 1) := dk_9 (dk_at dksX5_isLike_0 5 rfl rfl)
theorem dX5_isLike_6 : decode cX5_isLike 6 = .ok (.invokevirtual 555, 3) := dk_182 2 43 (dk_at dksX5_isLike_0 6 rfl rfl)
theorem dX5_isLike_9 : decode cX5_isLike 9 = .ok (.istore_n 2, 1) := dk_61 (dk_at dksX5_isLike_0 9 rfl rfl)
theorem dX5_isLike_10 : decode cX5_isLike 10 = .ok (.iload_n 2, 1) := dk_28 (dk_at dksX5_isLike_0 10 rfl rfl)
theorem dX5_isLike_11 : decode cX5_isLike 11 = .ok (.aload_n 1, 1) := dk_43 (dk_at dksX5_isLike_0 11 rfl rfl)
theorem dX5_isLike_12 : decode cX5_isLike 12 = .ok (.getfield 108, 3) := dk_180 0 108 (dk_at dksX5_isLike_0 12 rfl rfl)
theorem dX5_isLike_15 : decode cX5_isLike 15 = .ok (.lconst 0, 1) := dk_9 (dk_at dksX5_isLike_0 15 rfl rfl)
theorem dX5_isLike_16 : decode cX5_isLike 16 = .ok (.lconst 0, 1) := dk_9 (dk_at dksX5_isLike_0 16 rfl rfl)
theorem dX5_isLike_17 : decode cX5_isLike 17 = .ok (.invokevirtual 555, 3) := dk_182 2 43 (dk_at dksX5_isLike_0 17 rfl rfl)
theorem dX5_isLike_20 : decode cX5_isLike 20 = .ok (.if_icmp .ne 7, 3) := dk_160 0 7 (dk_at dksX5_isLike_0 20 rfl rfl)
theorem dX5_isLike_23 : decode cX5_isLike 23 = .ok (.iconst 1, 1) := dk_4 (dk_at dksX5_isLike_0 23 rfl rfl)
theorem dX5_isLike_24 : decode cX5_isLike 24 = .ok (.goto 4, 3) := dk_167 0 4 (dk_at dksX5_isLike_1 0 rfl rfl)
theorem dX5_isLike_27 : decode cX5_isLike 27 = .ok (.iconst 0, 1) := dk_3 (dk_at dksX5_isLike_1 3 rfl rfl)
theorem dX5_isLike_28 : decode cX5_isLike 28 = .ok (.istore_n 3, 1) := dk_62 (dk_at dksX5_isLike_1 4 rfl rfl)
theorem dX5_isLike_29 : decode cX5_isLike 29 = .ok (.iload_n 2, 1) := dk_28 (dk_at dksX5_isLike_1 5 rfl rfl)
theorem dX5_isLike_30 : decode cX5_isLike 30 = .ok (.ifCond .eq 209, 3) := dk_153 0 209 (dk_at dksX5_isLike_1 6 rfl rfl)
theorem dX5_isLike_33 : decode cX5_isLike 33 = .ok (.iload_n 3, 1) := dk_29 (dk_at dksX5_isLike_1 9 rfl rfl)
theorem dX5_isLike_34 : decode cX5_isLike 34 = .ok (.ifCond .eq 205, 3) := dk_153 0 205 (dk_at dksX5_isLike_1 10 rfl rfl)
theorem dX5_isLike_37 : decode cX5_isLike 37 = .ok (.aload_n 0, 1) := dk_42 (dk_at dksX5_isLike_1 13 rfl rfl)
theorem dX5_isLike_38 : decode cX5_isLike 38 = .ok (.getfield 108, 3) := dk_180 0 108 (dk_at dksX5_isLike_1 14 rfl rfl)
theorem dX5_isLike_41 : decode cX5_isLike 41 = .ok (.getfield 558, 3) := dk_180 2 46 (dk_at dksX5_isLike_1 17 rfl rfl)
theorem dX5_isLike_44 : decode cX5_isLike 44 = .ok (.aload_n 1, 1) := dk_43 (dk_at dksX5_isLike_1 20 rfl rfl)
theorem dX5_isLike_45 : decode cX5_isLike 45 = .ok (.getfield 108, 3) := dk_180 0 108 (dk_at dksX5_isLike_1 21 rfl rfl)
theorem dX5_isLike_48 : decode cX5_isLike 48 = .ok (.getfield 558, 3) := dk_180 2 46 (dk_at dksX5_isLike_2 0 rfl rfl)
theorem dX5_isLike_51 : decode cX5_isLike 51 = .ok (.lcmp, 1) := dk_148 (dk_at dksX5_isLike_2 3 rfl rfl)
theorem dX5_isLike_52 : decode cX5_isLike 52 = .ok (.ifCond .ne 42, 3) := dk_154 0 42 (dk_at dksX5_isLike_2 4 rfl rfl)
theorem dX5_isLike_55 : decode cX5_isLike 55 = .ok (.aload_n 0, 1) := dk_42 (dk_at dksX5_isLike_2 7 rfl rfl)
theorem dX5_isLike_56 : decode cX5_isLike 56 = .ok (.getfield 108, 3) := dk_180 0 108 (dk_at dksX5_isLike_2 8 rfl rfl)
theorem dX5_isLike_59 : decode cX5_isLike 59 = .ok (.getfield 560, 3) := dk_180 2 48 (dk_at dksX5_isLike_2 11 rfl rfl)
theorem dX5_isLike_62 : decode cX5_isLike 62 = .ok (.aload_n 1, 1) := dk_43 (dk_at dksX5_isLike_2 14 rfl rfl)
theorem dX5_isLike_63 : decode cX5_isLike 63 = .ok (.getfield 108, 3) := dk_180 0 108 (dk_at dksX5_isLike_2 15 rfl rfl)
theorem dX5_isLike_66 : decode cX5_isLike 66 = .ok (.getfield 560, 3) := dk_180 2 48 (dk_at dksX5_isLike_2 18 rfl rfl)
theorem dX5_isLike_69 : decode cX5_isLike 69 = .ok (.lcmp, 1) := dk_148 (dk_at dksX5_isLike_2 21 rfl rfl)
theorem dX5_isLike_70 : decode cX5_isLike 70 = .ok (.ifCond .ne 24, 3) := dk_154 0 24 (dk_at dksX5_isLike_3 0 rfl rfl)
theorem dX5_isLike_73 : decode cX5_isLike 73 = .ok (.aload_n 0, 1) := dk_42 (dk_at dksX5_isLike_3 3 rfl rfl)
theorem dX5_isLike_74 : decode cX5_isLike 74 = .ok (.getfield 108, 3) := dk_180 0 108 (dk_at dksX5_isLike_3 4 rfl rfl)
theorem dX5_isLike_77 : decode cX5_isLike 77 = .ok (.getfield 586, 3) := dk_180 2 74 (dk_at dksX5_isLike_3 7 rfl rfl)
theorem dX5_isLike_80 : decode cX5_isLike 80 = .ok (.aload_n 1, 1) := dk_43 (dk_at dksX5_isLike_3 10 rfl rfl)
theorem dX5_isLike_81 : decode cX5_isLike 81 = .ok (.getfield 108, 3) := dk_180 0 108 (dk_at dksX5_isLike_3 11 rfl rfl)
theorem dX5_isLike_84 : decode cX5_isLike 84 = .ok (.getfield 586, 3) := dk_180 2 74 (dk_at dksX5_isLike_3 14 rfl rfl)
theorem dX5_isLike_87 : decode cX5_isLike 87 = .ok (.if_icmp .ne 7, 3) := dk_160 0 7 (dk_at dksX5_isLike_3 17 rfl rfl)
theorem dX5_isLike_90 : decode cX5_isLike 90 = .ok (.iconst 1, 1) := dk_4 (dk_at dksX5_isLike_3 20 rfl rfl)
theorem dX5_isLike_91 : decode cX5_isLike 91 = .ok (.goto 4, 3) := dk_167 0 4 (dk_at dksX5_isLike_3 21 rfl rfl)
theorem dX5_isLike_94 : decode cX5_isLike 94 = .ok (.iconst 0, 1) := dk_3 (dk_at dksX5_isLike_4 0 rfl rfl)
theorem dX5_isLike_95 : decode cX5_isLike 95 = .ok (.istore_n 3, 1) := dk_62 (dk_at dksX5_isLike_4 1 rfl rfl)
theorem dX5_isLike_96 : decode cX5_isLike 96 = .ok (.aload_n 0, 1) := dk_42 (dk_at dksX5_isLike_4 2 rfl rfl)
theorem dX5_isLike_97 : decode cX5_isLike 97 = .ok (.aload_n 0, 1) := dk_42 (dk_at dksX5_isLike_4 3 rfl rfl)
theorem dX5_isLike_98 : decode cX5_isLike 98 = .ok (.getfield 108, 3) := dk_180 0 108 (dk_at dksX5_isLike_4 4 rfl rfl)
theorem dX5_isLike_101 : decode cX5_isLike 101 = .ok (.getfield 452, 3) := dk_180 1 196 (dk_at dksX5_isLike_4 7 rfl rfl)
theorem dX5_isLike_104 : decode cX5_isLike 104 = .ok (.aload_n 0, 1) := dk_42 (dk_at dksX5_isLike_4 10 rfl rfl)
theorem dX5_isLike_105 : decode cX5_isLike 105 = .ok (.getfield 108, 3) := dk_180 0 108 (dk_at dksX5_isLike_4 11 rfl rfl)
theorem dX5_isLike_108 : decode cX5_isLike 108 = .ok (.getfield 453, 3) := dk_180 1 197 (dk_at dksX5_isLike_4 14 rfl rfl)
theorem dX5_isLike_111 : decode cX5_isLike 111 = .ok (.aload_n 0, 1) := dk_42 (dk_at dksX5_isLike_4 17 rfl rfl)
theorem dX5_isLike_112 : decode cX5_isLike 112 = .ok (.getfield 108, 3) := dk_180 0 108 (dk_at dksX5_isLike_4 18 rfl rfl)
theorem dX5_isLike_115 : decode cX5_isLike 115 = .ok (.getfield 586, 3) := dk_180 2 74 (dk_at dksX5_isLike_4 21 rfl rfl)
theorem dX5_isLike_118 : decode cX5_isLike 118 = .ok (.aload_n 0, 1) := dk_42 (dk_at dksX5_isLike_5 0 rfl rfl)
theorem dX5_isLike_119 : decode cX5_isLike 119 = .ok (.getfield 16, 3) := dk_180 0 16 (dk_at dksX5_isLike_5 1 rfl rfl)
theorem dX5_isLike_122 : decode cX5_isLike 122 = .ok (.invokevirtual 173, 3) := dk_182 0 173 (dk_at dksX5_isLike_5 4 rfl rfl)
theorem dX5_isLike_125 : decode cX5_isLike 125 = .ok (.aload_n 1, 1) := dk_43 (dk_at dksX5_isLike_5 7 rfl rfl)
theorem dX5_isLike_126 : decode cX5_isLike 126 = .ok (.aload_n 1, 1) := dk_43 (dk_at dksX5_isLike_5 8 rfl rfl)
theorem dX5_isLike_127 : decode cX5_isLike 127 = .ok (.getfield 108, 3) := dk_180 0 108 (dk_at dksX5_isLike_5 9 rfl rfl)
theorem dX5_isLike_130 : decode cX5_isLike 130 = .ok (.getfield 452, 3) := dk_180 1 196 (dk_at dksX5_isLike_5 12 rfl rfl)
theorem dX5_isLike_133 : decode cX5_isLike 133 = .ok (.aload_n 1, 1) := dk_43 (dk_at dksX5_isLike_5 15 rfl rfl)
theorem dX5_isLike_134 : decode cX5_isLike 134 = .ok (.getfield 108, 3) := dk_180 0 108 (dk_at dksX5_isLike_5 16 rfl rfl)
theorem dX5_isLike_137 : decode cX5_isLike 137 = .ok (.getfield 453, 3) := dk_180 1 197 (dk_at dksX5_isLike_5 19 rfl rfl)
theorem dX5_isLike_140 : decode cX5_isLike 140 = .ok (.aload_n 1, 1) := dk_43 (dk_at dksX5_isLike_5 22 rfl rfl)
theorem dX5_isLike_141 : decode cX5_isLike 141 = .ok (.getfield 108, 3) := dk_180 0 108 (dk_at dksX5_isLike_6 0 rfl rfl)
theorem dX5_isLike_144 : decode cX5_isLike 144 = .ok (.getfield 586, 3) := dk_180 2 74 (dk_at dksX5_isLike_6 3 rfl rfl)
theorem dX5_isLike_147 : decode cX5_isLike 147 = .ok (.aload_n 1, 1) := dk_43 (dk_at dksX5_isLike_6 6 rfl rfl)
theorem dX5_isLike_148 : decode cX5_isLike 148 = .ok (.getfield 16, 3) := dk_180 0 16 (dk_at dksX5_isLike_6 7 rfl rfl)
theorem dX5_isLike_151 : decode cX5_isLike 151 = .ok (.invokevirtual 173, 3) := dk_182 0 173 (dk_at dksX5_isLike_6 10 rfl rfl)
theorem dX5_isLike_154 : decode cX5_isLike 154 = .ok (.bipush 24, 2) := dk_16 24 (dk_at dksX5_isLike_6 13 rfl rfl)
theorem dX5_isLike_156 : decode cX5_isLike 156 = .ok (.istore 4, 2) := dk_54 4 (dk_at dksX5_isLike_6 15 rfl rfl)
theorem dX5_isLike_158 : decode cX5_isLike 158 = .ok (.iload 4, 2) := dk_21 4 (dk_at dksX5_isLike_6 17 rfl rfl)
theorem dX5_isLike_160 : decode cX5_isLike 160 = .ok (.aload_n 0, 1) := dk_42 (dk_at dksX5_isLike_6 19 rfl rfl)
theorem dX5_isLike_161 : decode cX5_isLike 161 = .ok (.getfield 108, 3) := dk_180 0 108 (dk_at dksX5_isLike_6 20 rfl rfl)
theorem dX5_isLike_164 : decode cX5_isLike 164 = .ok (.getfield 586, 3) := dk_180 2 74 (dk_at dksX5_isLike_7 0 rfl rfl)
theorem dX5_isLike_167 : decode cX5_isLike 167 = .ok (.if_icmp .ge 42, 3) := dk_162 0 42 (dk_at dksX5_isLike_7 3 rfl rfl)
theorem dX5_isLike_170 : decode cX5_isLike 170 = .ok (.iload_n 3, 1) := dk_29 (dk_at dksX5_isLike_7 6 rfl rfl)
theorem dX5_isLike_171 : decode cX5_isLike 171 = .ok (.ifCond .eq 38, 3) := dk_153 0 38 (dk_at dksX5_isLike_7 7 rfl rfl)
theorem dX5_isLike_174 : decode cX5_isLike 174 = .ok (.aload_n 0, 1) := dk_42 (dk_at dksX5_isLike_7 10 rfl rfl)
theorem dX5_isLike_175 : decode cX5_isLike 175 = .ok (.getfield 16, 3) := dk_180 0 16 (dk_at dksX5_isLike_7 11 rfl rfl)
theorem dX5_isLike_178 : decode cX5_isLike 178 = .ok (.getfield 158, 3) := dk_180 0 158 (dk_at dksX5_isLike_7 14 rfl rfl)
theorem dX5_isLike_181 : decode cX5_isLike 181 = .ok (.iload 4, 2) := dk_21 4 (dk_at dksX5_isLike_7 17 rfl rfl)
theorem dX5_isLike_183 : decode cX5_isLike 183 = .ok (.baload, 1) := dk_51 (dk_at dksX5_isLike_7 19 rfl rfl)
theorem dX5_isLike_184 : decode cX5_isLike 184 = .ok (.aload_n 1, 1) := dk_43 (dk_at dksX5_isLike_7 20 rfl rfl)
theorem dX5_isLike_185 : decode cX5_isLike 185 = .ok (.getfield 16, 3) := dk_180 0 16 (dk_at dksX5_isLike_7 21 rfl rfl)
theorem dX5_isLike_188 : decode cX5_isLike 188 = .ok (.getfield 158, 3) := dk_180 0 158 (dk_at dksX5_isLike_8 0 rfl rfl)
theorem dX5_isLike_191 : decode cX5_isLike 191 = .ok (.iload 4, 2) := dk_21 4 (dk_at dksX5_isLike_8 3 rfl rfl)
theorem dX5_isLike_193 : decode cX5_isLike 193 = .ok (.baload, 1) := dk_51 (dk_at dksX5_isLike_8 5 rfl rfl)
theorem dX5_isLike_194 : decode cX5_isLike 194 = .ok (.if_icmp .ne 7, 3) := dk_160 0 7 (dk_at dksX5_isLike_8 6 rfl rfl)
theorem dX5_isLike_197 : decode cX5_isLike 197 = .ok (.iconst 1, 1) := dk_4 (dk_at dksX5_isLike_8 9 rfl rfl)
theorem dX5_isLike_198 : decode cX5_isLike 198 = .ok (.goto 4, 3) := dk_167 0 4 (dk_at dksX5_isLike_8 10 rfl rfl)
theorem dX5_isLike_201 : decode cX5_isLike 201 = .ok (.iconst 0, 1) := dk_3 (dk_at dksX5_isLike_8 13 rfl rfl)
theorem dX5_isLike_202 : decode cX5_isLike 202 = .ok (.istore_n 3, 1) := dk_62 (dk_at dksX5_isLike_8 14 rfl rfl)
theorem dX5_isLike_203 : decode cX5_isLike 203 = .ok (.iinc 4 1, 3) := dk_132 4 1 (dk_at dksX5_isLike_8 15 rfl rfl)
theorem dX5_isLike_206 : decode cX5_isLike 206 = .ok (.goto (-48), 3) := dk_167 255 208 (dk_at dksX5_isLike_8 18 rfl rfl)
theorem dX5_isLike_209 : decode cX5_isLike 209 = .ok (.aload_n 0, 1) := dk_42 (dk_at dksX5_isLike_8 21 rfl rfl)
theorem dX5_isLike_210 : decode cX5_isLike 210 = .ok (.getfield 108, 3) := dk_180 0 108 (dk_at dksX5_isLike_9 0 rfl rfl)
theorem dX5_isLike_213 : decode cX5_isLike 213 = .ok (.invokevirtual 587, 3) := dk_182 2 75 (dk_at dksX5_isLike_9 3 rfl rfl)
theorem dX5_isLike_216 : decode cX5_isLike 216 = .ok (.istore_n 2, 1) := dk_61 (dk_at dksX5_isLike_9 6 rfl rfl)
theorem dX5_isLike_217 : decode cX5_isLike 217 = .ok (.iload_n 3, 1) := dk_29 (dk_at dksX5_isLike_9 7 rfl rfl)
theorem dX5_isLike_218 : decode cX5_isLike 218 = .ok (.iload_n 2, 1) := dk_28 (dk_at dksX5_isLike_9 8 rfl rfl)
theorem dX5_isLike_219 : decode cX5_isLike 219 = .ok (.aload_n 1, 1) := dk_43 (dk_at dksX5_isLike_9 9 rfl rfl)
theorem dX5_isLike_220 : decode cX5_isLike 220 = .ok (.getfield 108, 3) := dk_180 0 108 (dk_at dksX5_isLike_9 10 rfl rfl)
theorem dX5_isLike_223 : decode cX5_isLike 223 = .ok (.invokevirtual 587, 3) := dk_182 2 75 (dk_at dksX5_isLike_9 13 rfl rfl)
theorem dX5_isLike_226 : decode cX5_isLike 226 = .ok (.if_icmp .ne 7, 3) := dk_160 0 7 (dk_at dksX5_isLike_9 16 rfl rfl)
theorem dX5_isLike_229 : decode cX5_isLike 229 = .ok (.iconst 1, 1) := dk_4 (dk_at dksX5_isLike_9 19 rfl rfl)
theorem dX5_isLike_230 : decode cX5_isLike 230 = .ok (.goto 4, 3) := dk_167 0 4 (dk_at dksX5_isLike_9 20 rfl rfl)
theorem dX5_isLike_233 : decode cX5_isLike 233 = .ok (.iconst 0, 1) := dk_3 (dk_at dksX5_isLike_9 23 rfl rfl)
theorem dX5_isLike_234 : decode cX5_isLike 234 = .ok (.iand, 1) := dk_126 (dk_at dksX5_isLike_10 0 rfl rfl)
theorem dX5_isLike_235 : decode cX5_isLike 235 = .ok (.istore_n 3, 1) := dk_62 (dk_at dksX5_isLike_10 1 rfl rfl)
theorem dX5_isLike_236 : decode cX5_isLike 236 = .ok (.goto (-207), 3) := dk_167 255 49 (dk_at dksX5_isLike_10 2 rfl rfl)
theorem dX5_isLike_239 : decode cX5_isLike 239 = .ok (.iload_n 3, 1) := dk_29 (dk_at dksX5_isLike_10 5 rfl rfl)
theorem dX5_isLike_240 : decode cX5_isLike 240 = .ok (.ifCond .eq 18, 3) := dk_153 0 18 (dk_at dksX5_isLike_10 6 rfl rfl)
theorem dX5_isLike_243 : decode cX5_isLike 243 = .ok (.aload_n 0, 1) := dk_42 (dk_at dksX5_isLike_10 9 rfl rfl)
theorem dX5_isLike_244 : decode cX5_isLike 244 = .ok (.getfield 30, 3) := dk_180 0 30 (dk_at dksX5_isLike_10 10 rfl rfl)
theorem dX5_isLike_247 : decode cX5_isLike 247 = .ok (.aload_n 1, 1) := dk_43 (dk_at dksX5_isLike_10 13 rfl rfl)
theorem dX5_isLike_248 : decode cX5_isLike 248 = .ok (.getfield 30, 3) := dk_180 0 30 (dk_at dksX5_isLike_10 14 rfl rfl)
theorem dX5_isLike_251 : decode cX5_isLike 251 = .ok (.if_icmp .ne 7, 3) := dk_160 0 7 (dk_at dksX5_isLike_10 17 rfl rfl)
theorem dX5_isLike_254 : decode cX5_isLike 254 = .ok (.iconst 1, 1) := dk_4 (dk_at dksX5_isLike_10 20 rfl rfl)
theorem dX5_isLike_255 : decode cX5_isLike 255 = .ok (.goto 4, 3) := dk_167 0 4 (dk_at dksX5_isLike_10 21 rfl rfl)
theorem dX5_isLike_258 : decode cX5_isLike 258 = .ok (.iconst 0, 1) := dk_3 (dk_at dksX5_isLike_11 0 rfl rfl)
theorem dX5_isLike_259 : decode cX5_isLike 259 = .ok (.ireturn, 1) := dk_172 (dk_at dksX5_isLike_11 1 rfl rfl)
theorem q136 : (Jvm.Cond.initialized "NandHouse$Store") ∈ lw_all := lw_g (lw_at lw_m1 6 rfl) rfl
theorem q166 : (Jvm.Cond.fieldLink "NandHouse$Store" (158 : Nat) "NandHouse$Row" "bytes" "[B") ∈ lw_all := lw_g (lw_at lw_m1 36 rfl) rfl
theorem q169 : (Jvm.Cond.fieldLink "NandHouse$Store" (209 : Nat) "NandHouse$Row" "at" "I") ∈ lw_all := lw_g (lw_at lw_m1 39 rfl) rfl
theorem q172 : (Jvm.Cond.fieldLink "NandHouse$Store" (167 : Nat) "NandHouse$Row" "end" "I") ∈ lw_all := lw_g (lw_at lw_m1 42 rfl) rfl
theorem q222 : (Jvm.Cond.fieldLink "NandHouse$Store" (63 : Nat) "NandHouse$Flash" "blocks" "I") ∈ lw_all := lw_g (lw_at lw_m1 92 rfl) rfl
theorem q254 : (Jvm.Cond.instantiable "NandHouse$Store" (37 : Nat)) ∈ lw_all := lw_g (lw_at lw_m1 124 rfl) rfl
theorem q256 : (Jvm.Cond.instanceMethod ({ cls := "NandHouse$Store", name := "<init>", desc := "(LNandHouse$Flash;I)V" } : Jvm.MethodName)) ∈ lw_all := lw_g (lw_at lw_m1 126 rfl) rfl
theorem q257 : (Jvm.Cond.code ({ cls := "NandHouse$Store", name := "<init>", desc := "(LNandHouse$Flash;I)V" } : Jvm.MethodName) prog_9_method_1_code (4 : Nat) (Option.none : Option Jvm.ClassFile.FieldType)) ∈ lw_all := lw_g (lw_at lw_m1 127 rfl) rfl
theorem q258 : (Jvm.Cond.methodLink "NandHouse$Store" (3 : Nat) ({ cls := "java/lang/Object", name := "<init>", desc := "()V" } : Jvm.MethodName)) ∈ lw_all := lw_g (lw_at lw_m1 128 rfl) rfl
theorem q259 : (Jvm.Cond.classLink "NandHouse$Store" (9 : Nat) "NandHouse$Row") ∈ lw_all := lw_g (lw_at lw_m1 129 rfl) rfl
theorem q260 : (Jvm.Cond.methodLink "NandHouse$Store" (13 : Nat) ({ cls := "NandHouse$Row", name := "<init>", desc := "(I)V" } : Jvm.MethodName)) ∈ lw_all := lw_g (lw_at lw_m1 130 rfl) rfl
theorem q261 : (Jvm.Cond.classLink "NandHouse$Store" (52 : Nat) "NandHouse$Knot") ∈ lw_all := lw_g (lw_at lw_m1 131 rfl) rfl
theorem q263 : (Jvm.Cond.classLink "NandHouse$Store" (61 : Nat) "NandHouse$Blocks") ∈ lw_all := lw_g (lw_at lw_m1 133 rfl) rfl
theorem q265 : (Jvm.Cond.methodLink "NandHouse$Store" (68 : Nat) ({ cls := "NandHouse$Blocks", name := "<init>", desc := "(LNandHouse$Flash;I)V" } : Jvm.MethodName)) ∈ lw_all := lw_g (lw_at lw_m1 135 rfl) rfl
theorem q272 : (Jvm.Cond.fieldLink "NandHouse$Store" (83 : Nat) "NandHouse$Blocks" "numbers" "I") ∈ lw_all := lw_g (lw_at lw_m1 142 rfl) rfl
theorem q326 : (Jvm.Cond.classLink "NandHouse$Store" (74 : Nat) "NandHouse$Space") ∈ lw_all := lw_g (lw_at lw_m1 196 rfl) rfl
theorem q328 : (Jvm.Cond.methodLink "NandHouse$Store" (76 : Nat) ({ cls := "NandHouse$Space", name := "<init>", desc := "(LNandHouse$Blocks;I)V" } : Jvm.MethodName)) ∈ lw_all := lw_g (lw_at lw_m1 198 rfl) rfl
theorem q338 : (Jvm.Cond.fieldLink "NandHouse$Store" (86 : Nat) "NandHouse$Space" "first" "I") ∈ lw_all := lw_g (lw_at lw_m1 208 rfl) rfl
theorem q340 : (Jvm.Cond.fieldLink "NandHouse$Store" (96 : Nat) "NandHouse$Space" "size" "I") ∈ lw_all := lw_g (lw_at lw_m1 210 rfl) rfl
theorem q344 : (Jvm.Cond.fieldLink "NandHouse$Store" (296 : Nat) "NandHouse$Space" "use" "[I") ∈ lw_all := lw_g (lw_at lw_m1 214 rfl) rfl
theorem q347 : (Jvm.Cond.fieldLink "NandHouse$Store" (363 : Nat) "NandHouse$Space" "live" "[I") ∈ lw_all := lw_g (lw_at lw_m1 217 rfl) rfl
theorem q349 : (Jvm.Cond.fieldLink "NandHouse$Store" (368 : Nat) "NandHouse$Space" "ofIndex" "[Z") ∈ lw_all := lw_g (lw_at lw_m1 219 rfl) rfl
theorem q363 : (Jvm.Cond.methodLinkNest "NandHouse$Store" (89 : Nat) ({ cls := "NandHouse", name := "eights", desc := "(I)I" } : Jvm.MethodName) "NandHouse") ∈ lw_tbl := lw_at lw_m1 233 rfl
theorem q366 : (Jvm.Cond.methodLink "NandHouse$Store" (99 : Nat) ({ cls := "NandHouse$Store", name := "costOf", desc := "(I)I" } : Jvm.MethodName)) ∈ lw_all := lw_g (lw_at lw_m1 236 rfl) rfl
theorem q367 : (Jvm.Cond.privateMethod ({ cls := "NandHouse$Store", name := "costOf", desc := "(I)I" } : Jvm.MethodName)) ∈ lw_tbl := lw_at lw_m1 237 rfl
theorem q368 : (Jvm.Cond.instanceMethod ({ cls := "NandHouse$Store", name := "costOf", desc := "(I)I" } : Jvm.MethodName)) ∈ lw_all := lw_g (lw_at lw_m1 238 rfl) rfl
theorem q369 : (Jvm.Cond.code ({ cls := "NandHouse$Store", name := "costOf", desc := "(I)I" } : Jvm.MethodName) prog_9_method_2_code (2 : Nat) (Option.some Jvm.ClassFile.FieldType.int)) ∈ lw_all := lw_g (lw_at lw_m1 239 rfl) rfl
theorem q370 : (Jvm.Cond.classLink "NandHouse$Store" (50 : Nat) "NandHouse$Index") ∈ lw_all := lw_g (lw_at lw_m2 0 rfl) rfl
theorem q372 : (Jvm.Cond.methodLink "NandHouse$Store" (105 : Nat) ({ cls := "NandHouse$Index", name := "<init>", desc := "(LNandHouse$Space;)V" } : Jvm.MethodName)) ∈ lw_all := lw_g (lw_at lw_m2 2 rfl) rfl
theorem q385 : (Jvm.Cond.fieldLink "NandHouse$Store" (315 : Nat) "NandHouse$Knot" "level" "I") ∈ lw_all := lw_g (lw_at lw_m2 15 rfl) rfl
theorem q388 : (Jvm.Cond.fieldLink "NandHouse$Store" (312 : Nat) "NandHouse$Knot" "count" "I") ∈ lw_all := lw_g (lw_at lw_m2 18 rfl) rfl
theorem q391 : (Jvm.Cond.fieldLink "NandHouse$Store" (333 : Nat) "NandHouse$Knot" "high" "[J") ∈ lw_all := lw_g (lw_at lw_m2 21 rfl) rfl
theorem q394 : (Jvm.Cond.fieldLink "NandHouse$Store" (341 : Nat) "NandHouse$Knot" "low" "[J") ∈ lw_all := lw_g (lw_at lw_m2 24 rfl) rfl
theorem q397 : (Jvm.Cond.fieldLink "NandHouse$Store" (344 : Nat) "NandHouse$Knot" "number" "[I") ∈ lw_all := lw_g (lw_at lw_m2 27 rfl) rfl
theorem q400 : (Jvm.Cond.fieldLink "NandHouse$Store" (349 : Nat) "NandHouse$Knot" "place" "[I") ∈ lw_all := lw_g (lw_at lw_m2 30 rfl) rfl
theorem q403 : (Jvm.Cond.fieldLink "NandHouse$Store" (354 : Nat) "NandHouse$Knot" "size" "[I") ∈ lw_all := lw_g (lw_at lw_m2 33 rfl) rfl
theorem q406 : (Jvm.Cond.fieldLink "NandHouse$Store" (318 : Nat) "NandHouse$Knot" "below" "[LNandHouse$Knot;") ∈ lw_all := lw_g (lw_at lw_m2 36 rfl) rfl
theorem q409 : (Jvm.Cond.fieldLink "NandHouse$Store" (321 : Nat) "NandHouse$Knot" "fresh" "Z") ∈ lw_all := lw_g (lw_at lw_m2 39 rfl) rfl
theorem q412 : (Jvm.Cond.fieldLink "NandHouse$Store" (346 : Nat) "NandHouse$Knot" "ownNumber" "I") ∈ lw_all := lw_g (lw_at lw_m2 42 rfl) rfl
theorem q413 : (Jvm.Cond.fieldLink "NandHouse$Store" (351 : Nat) "NandHouse$Knot" "ownPlace" "I") ∈ lw_all := lw_g (lw_at lw_m2 43 rfl) rfl
theorem q416 : (Jvm.Cond.fieldLink "NandHouse$Store" (356 : Nat) "NandHouse$Knot" "ownSize" "I") ∈ lw_all := lw_g (lw_at lw_m2 46 rfl) rfl
theorem q446 : (Jvm.Cond.fieldLink "NandHouse$Store" (272 : Nat) "NandHouse$Index" "root" "LNandHouse$Knot;") ∈ lw_all := lw_g (lw_at lw_m2 76 rfl) rfl
theorem q448 : (Jvm.Cond.fieldLinkNest "NandHouse$Store" (576 : Nat) "NandHouse$Index" "oldNumber" "[I" "NandHouse") ∈ lw_tbl := lw_at lw_m2 78 rfl
theorem q450 : (Jvm.Cond.fieldLinkNest "NandHouse$Store" (579 : Nat) "NandHouse$Index" "oldSize" "[I" "NandHouse") ∈ lw_tbl := lw_at lw_m2 80 rfl
theorem q452 : (Jvm.Cond.fieldLinkNest "NandHouse$Store" (573 : Nat) "NandHouse$Index" "olds" "I" "NandHouse") ∈ lw_tbl := lw_at lw_m2 82 rfl
theorem q455 : (Jvm.Cond.fieldLink "NandHouse$Store" (558 : Nat) "NandHouse$Index" "high" "J") ∈ lw_all := lw_g (lw_at lw_m2 85 rfl) rfl
theorem q458 : (Jvm.Cond.fieldLink "NandHouse$Store" (560 : Nat) "NandHouse$Index" "low" "J") ∈ lw_all := lw_g (lw_at lw_m2 88 rfl) rfl
theorem q461 : (Jvm.Cond.fieldLink "NandHouse$Store" (452 : Nat) "NandHouse$Index" "number" "I") ∈ lw_all := lw_g (lw_at lw_m2 91 rfl) rfl
theorem q464 : (Jvm.Cond.fieldLink "NandHouse$Store" (453 : Nat) "NandHouse$Index" "place" "I") ∈ lw_all := lw_g (lw_at lw_m2 94 rfl) rfl
theorem q467 : (Jvm.Cond.fieldLink "NandHouse$Store" (586 : Nat) "NandHouse$Index" "size" "I") ∈ lw_all := lw_g (lw_at lw_m2 97 rfl) rfl
theorem q499 : (Jvm.Cond.classLink "NandHouse$Store" (112 : Nat) "NandHouse$Writer") ∈ lw_all := lw_g (lw_at lw_m2 129 rfl) rfl
theorem q501 : (Jvm.Cond.methodLink "NandHouse$Store" (114 : Nat) ({ cls := "NandHouse$Writer", name := "<init>", desc := "(LNandHouse$Blocks;LNandHouse$Space;)V" } : Jvm.MethodName)) ∈ lw_all := lw_g (lw_at lw_m2 131 rfl) rfl
theorem q509 : (Jvm.Cond.fieldLink "NandHouse$Store" (131 : Nat) "NandHouse$Writer" "number" "I") ∈ lw_all := lw_g (lw_at lw_m2 139 rfl) rfl
theorem q511 : (Jvm.Cond.fieldLink "NandHouse$Store" (134 : Nat) "NandHouse$Writer" "place" "I") ∈ lw_all := lw_g (lw_at lw_m2 141 rfl) rfl
theorem q523 : (Jvm.Cond.fieldLink "NandHouse$Store" (71 : Nat) "NandHouse$Store" "blocks" "LNandHouse$Blocks;") ∈ lw_all := lw_g (lw_at lw_m2 153 rfl) rfl
theorem q525 : (Jvm.Cond.fieldLink "NandHouse$Store" (79 : Nat) "NandHouse$Store" "space" "LNandHouse$Space;") ∈ lw_all := lw_g (lw_at lw_m2 155 rfl) rfl
theorem q526 : (Jvm.Cond.fieldLink "NandHouse$Store" (108 : Nat) "NandHouse$Store" "index" "LNandHouse$Index;") ∈ lw_all := lw_g (lw_at lw_m2 156 rfl) rfl
theorem q528 : (Jvm.Cond.fieldLink "NandHouse$Store" (117 : Nat) "NandHouse$Store" "journal" "LNandHouse$Writer;") ∈ lw_all := lw_g (lw_at lw_m2 158 rfl) rfl
theorem q529 : (Jvm.Cond.fieldLink "NandHouse$Store" (121 : Nat) "NandHouse$Store" "mover" "LNandHouse$Writer;") ∈ lw_all := lw_g (lw_at lw_m2 159 rfl) rfl
theorem q530 : (Jvm.Cond.fieldLink "NandHouse$Store" (124 : Nat) "NandHouse$Store" "knots" "LNandHouse$Writer;") ∈ lw_all := lw_g (lw_at lw_m2 160 rfl) rfl
theorem q531 : (Jvm.Cond.fieldLink "NandHouse$Store" (16 : Nat) "NandHouse$Store" "node" "LNandHouse$Row;") ∈ lw_all := lw_g (lw_at lw_m2 161 rfl) rfl
theorem q533 : (Jvm.Cond.fieldLink "NandHouse$Store" (20 : Nat) "NandHouse$Store" "made" "LNandHouse$Row;") ∈ lw_all := lw_g (lw_at lw_m2 163 rfl) rfl
theorem q534 : (Jvm.Cond.fieldLink "NandHouse$Store" (23 : Nat) "NandHouse$Store" "sheet" "LNandHouse$Row;") ∈ lw_all := lw_g (lw_at lw_m2 164 rfl) rfl
theorem q535 : (Jvm.Cond.fieldLink "NandHouse$Store" (26 : Nat) "NandHouse$Store" "page" "[B") ∈ lw_all := lw_g (lw_at lw_m2 165 rfl) rfl
theorem q536 : (Jvm.Cond.fieldLink "NandHouse$Store" (127 : Nat) "NandHouse$Store" "serial" "J") ∈ lw_all := lw_g (lw_at lw_m2 166 rfl) rfl
theorem q537 : (Jvm.Cond.fieldLink "NandHouse$Store" (30 : Nat) "NandHouse$Store" "next" "I") ∈ lw_all := lw_g (lw_at lw_m2 167 rfl) rfl
theorem q539 : (Jvm.Cond.fieldLink "NandHouse$Store" (34 : Nat) "NandHouse$Store" "ends" "[I") ∈ lw_all := lw_g (lw_at lw_m2 169 rfl) rfl
theorem q540 : (Jvm.Cond.fieldLink "NandHouse$Store" (206 : Nat) "NandHouse$Store" "waits" "I") ∈ lw_all := lw_g (lw_at lw_m2 170 rfl) rfl
theorem q542 : (Jvm.Cond.fieldLink "NandHouse$Store" (196 : Nat) "NandHouse$Store" "groupNumber" "I") ∈ lw_all := lw_g (lw_at lw_m2 172 rfl) rfl
theorem q544 : (Jvm.Cond.fieldLink "NandHouse$Store" (203 : Nat) "NandHouse$Store" "groupPlace" "I") ∈ lw_all := lw_g (lw_at lw_m2 174 rfl) rfl
theorem q546 : (Jvm.Cond.fieldLink "NandHouse$Store" (38 : Nat) "NandHouse$Store" "log" "I") ∈ lw_all := lw_g (lw_at lw_m2 176 rfl) rfl
theorem q547 : (Jvm.Cond.fieldLink "NandHouse$Store" (263 : Nat) "NandHouse$Store" "logged" "I") ∈ lw_all := lw_g (lw_at lw_m2 177 rfl) rfl
theorem q548 : (Jvm.Cond.fieldLink "NandHouse$Store" (41 : Nat) "NandHouse$Store" "buds" "[I") ∈ lw_all := lw_g (lw_at lw_m2 178 rfl) rfl
theorem q549 : (Jvm.Cond.fieldLink "NandHouse$Store" (226 : Nat) "NandHouse$Store" "budCount" "I") ∈ lw_all := lw_g (lw_at lw_m2 179 rfl) rfl
theorem q550 : (Jvm.Cond.fieldLink "NandHouse$Store" (290 : Nat) "NandHouse$Store" "commit" "I") ∈ lw_all := lw_g (lw_at lw_m2 180 rfl) rfl
theorem q551 : (Jvm.Cond.fieldLink "NandHouse$Store" (308 : Nat) "NandHouse$Store" "commits" "Z") ∈ lw_all := lw_g (lw_at lw_m2 181 rfl) rfl
theorem q552 : (Jvm.Cond.fieldLink "NandHouse$Store" (44 : Nat) "NandHouse$Store" "tableNumber" "I") ∈ lw_all := lw_g (lw_at lw_m2 182 rfl) rfl
theorem q553 : (Jvm.Cond.fieldLink "NandHouse$Store" (375 : Nat) "NandHouse$Store" "tablePlace" "I") ∈ lw_all := lw_g (lw_at lw_m2 183 rfl) rfl
theorem q554 : (Jvm.Cond.fieldLink "NandHouse$Store" (372 : Nat) "NandHouse$Store" "tableSize" "I") ∈ lw_all := lw_g (lw_at lw_m2 184 rfl) rfl
theorem q555 : (Jvm.Cond.fieldLink "NandHouse$Store" (47 : Nat) "NandHouse$Store" "orphans" "[I") ∈ lw_all := lw_g (lw_at lw_m2 185 rfl) rfl
theorem q557 : (Jvm.Cond.fieldLink "NandHouse$Store" (293 : Nat) "NandHouse$Store" "orphanCount" "I") ∈ lw_all := lw_g (lw_at lw_m2 187 rfl) rfl
theorem q559 : (Jvm.Cond.fieldLink "NandHouse$Store" (284 : Nat) "NandHouse$Store" "oldLog" "I") ∈ lw_all := lw_g (lw_at lw_m2 189 rfl) rfl
theorem q560 : (Jvm.Cond.fieldLink "NandHouse$Store" (54 : Nat) "NandHouse$Store" "order" "[LNandHouse$Knot;") ∈ lw_all := lw_g (lw_at lw_m2 190 rfl) rfl
theorem q561 : (Jvm.Cond.fieldLink "NandHouse$Store" (299 : Nat) "NandHouse$Store" "ordered" "I") ∈ lw_all := lw_g (lw_at lw_m2 191 rfl) rfl
theorem q562 : (Jvm.Cond.fieldLink "NandHouse$Store" (302 : Nat) "NandHouse$Store" "done" "I") ∈ lw_all := lw_g (lw_at lw_m2 192 rfl) rfl
theorem q563 : (Jvm.Cond.fieldLink "NandHouse$Store" (58 : Nat) "NandHouse$Store" "victim" "I") ∈ lw_all := lw_g (lw_at lw_m2 193 rfl) rfl
theorem q564 : (Jvm.Cond.fieldLink "NandHouse$Store" (414 : Nat) "NandHouse$Store" "victimPlace" "I") ∈ lw_all := lw_g (lw_at lw_m2 194 rfl) rfl
theorem q565 : (Jvm.Cond.fieldLink "NandHouse$Store" (389 : Nat) "NandHouse$Store" "collected" "Z") ∈ lw_all := lw_g (lw_at lw_m2 195 rfl) rfl
theorem q566 : (Jvm.Cond.fieldLink "NandHouse$Store" (102 : Nat) "NandHouse$Store" "whole" "I") ∈ lw_all := lw_g (lw_at lw_m2 196 rfl) rfl
theorem q567 : (Jvm.Cond.fieldLink "NandHouse$Store" (93 : Nat) "NandHouse$Store" "table" "I") ∈ lw_all := lw_g (lw_at lw_m2 197 rfl) rfl
theorem q568 : (Jvm.Cond.fieldLink "NandHouse$Store" (495 : Nat) "NandHouse$Store" "again" "J") ∈ lw_all := lw_g (lw_at lw_m2 198 rfl) rfl
theorem q569 : (Jvm.Cond.laysFinal "NandHouse$Store" "NandHouse$Store" "blocks" "LNandHouse$Blocks;") ∈ lw_all := lw_g (lw_at lw_m2 199 rfl) rfl
theorem q570 : (Jvm.Cond.soleField "NandHouse$Store" "blocks") ∈ lw_all := lw_g (lw_at lw_m2 200 rfl) rfl
theorem q571 : (Jvm.Cond.laysFinal "NandHouse$Store" "NandHouse$Store" "space" "LNandHouse$Space;") ∈ lw_all := lw_g (lw_at lw_m2 201 rfl) rfl
theorem q572 : (Jvm.Cond.soleField "NandHouse$Store" "space") ∈ lw_all := lw_g (lw_at lw_m2 202 rfl) rfl
theorem q573 : (Jvm.Cond.laysFinal "NandHouse$Store" "NandHouse$Store" "index" "LNandHouse$Index;") ∈ lw_all := lw_g (lw_at lw_m2 203 rfl) rfl
theorem q574 : (Jvm.Cond.soleField "NandHouse$Store" "index") ∈ lw_all := lw_g (lw_at lw_m2 204 rfl) rfl
theorem q575 : (Jvm.Cond.laysFinal "NandHouse$Store" "NandHouse$Store" "journal" "LNandHouse$Writer;") ∈ lw_all := lw_g (lw_at lw_m2 205 rfl) rfl
theorem q576 : (Jvm.Cond.soleField "NandHouse$Store" "journal") ∈ lw_all := lw_g (lw_at lw_m2 206 rfl) rfl
theorem q577 : (Jvm.Cond.laysFinal "NandHouse$Store" "NandHouse$Store" "mover" "LNandHouse$Writer;") ∈ lw_all := lw_g (lw_at lw_m2 207 rfl) rfl
theorem q578 : (Jvm.Cond.soleField "NandHouse$Store" "mover") ∈ lw_all := lw_g (lw_at lw_m2 208 rfl) rfl
theorem q579 : (Jvm.Cond.laysFinal "NandHouse$Store" "NandHouse$Store" "knots" "LNandHouse$Writer;") ∈ lw_all := lw_g (lw_at lw_m2 209 rfl) rfl
theorem q580 : (Jvm.Cond.soleField "NandHouse$Store" "knots") ∈ lw_all := lw_g (lw_at lw_m2 210 rfl) rfl
theorem q581 : (Jvm.Cond.laysFinal "NandHouse$Store" "NandHouse$Store" "node" "LNandHouse$Row;") ∈ lw_all := lw_g (lw_at lw_m2 211 rfl) rfl
theorem q582 : (Jvm.Cond.soleField "NandHouse$Store" "node") ∈ lw_all := lw_g (lw_at lw_m2 212 rfl) rfl
theorem q583 : (Jvm.Cond.laysFinal "NandHouse$Store" "NandHouse$Store" "made" "LNandHouse$Row;") ∈ lw_all := lw_g (lw_at lw_m2 213 rfl) rfl
theorem q584 : (Jvm.Cond.soleField "NandHouse$Store" "made") ∈ lw_all := lw_g (lw_at lw_m2 214 rfl) rfl
theorem q585 : (Jvm.Cond.laysFinal "NandHouse$Store" "NandHouse$Store" "sheet" "LNandHouse$Row;") ∈ lw_all := lw_g (lw_at lw_m2 215 rfl) rfl
theorem q586 : (Jvm.Cond.soleField "NandHouse$Store" "sheet") ∈ lw_all := lw_g (lw_at lw_m2 216 rfl) rfl
theorem q587 : (Jvm.Cond.laysFinal "NandHouse$Store" "NandHouse$Store" "page" "[B") ∈ lw_all := lw_g (lw_at lw_m2 217 rfl) rfl
theorem q588 : (Jvm.Cond.soleField "NandHouse$Store" "page") ∈ lw_all := lw_g (lw_at lw_m2 218 rfl) rfl
theorem q589 : (Jvm.Cond.lays "NandHouse$Store" "NandHouse$Store" "serial" "J") ∈ lw_all := lw_g (lw_at lw_m2 219 rfl) rfl
theorem q590 : (Jvm.Cond.soleField "NandHouse$Store" "serial") ∈ lw_all := lw_g (lw_at lw_m2 220 rfl) rfl
theorem q591 : (Jvm.Cond.lays "NandHouse$Store" "NandHouse$Store" "next" "I") ∈ lw_all := lw_g (lw_at lw_m2 221 rfl) rfl
theorem q592 : (Jvm.Cond.soleField "NandHouse$Store" "next") ∈ lw_all := lw_g (lw_at lw_m2 222 rfl) rfl
theorem q593 : (Jvm.Cond.laysFinal "NandHouse$Store" "NandHouse$Store" "ends" "[I") ∈ lw_all := lw_g (lw_at lw_m2 223 rfl) rfl
theorem q594 : (Jvm.Cond.soleField "NandHouse$Store" "ends") ∈ lw_all := lw_g (lw_at lw_m2 224 rfl) rfl
theorem q595 : (Jvm.Cond.lays "NandHouse$Store" "NandHouse$Store" "waits" "I") ∈ lw_all := lw_g (lw_at lw_m2 225 rfl) rfl
theorem q596 : (Jvm.Cond.soleField "NandHouse$Store" "waits") ∈ lw_all := lw_g (lw_at lw_m2 226 rfl) rfl
theorem q597 : (Jvm.Cond.lays "NandHouse$Store" "NandHouse$Store" "groupNumber" "I") ∈ lw_all := lw_g (lw_at lw_m2 227 rfl) rfl
theorem q598 : (Jvm.Cond.soleField "NandHouse$Store" "groupNumber") ∈ lw_all := lw_g (lw_at lw_m2 228 rfl) rfl
theorem q599 : (Jvm.Cond.lays "NandHouse$Store" "NandHouse$Store" "groupPlace" "I") ∈ lw_all := lw_g (lw_at lw_m2 229 rfl) rfl
theorem q600 : (Jvm.Cond.soleField "NandHouse$Store" "groupPlace") ∈ lw_all := lw_g (lw_at lw_m2 230 rfl) rfl
theorem q601 : (Jvm.Cond.lays "NandHouse$Store" "NandHouse$Store" "log" "I") ∈ lw_all := lw_g (lw_at lw_m2 231 rfl) rfl
theorem q602 : (Jvm.Cond.soleField "NandHouse$Store" "log") ∈ lw_all := lw_g (lw_at lw_m2 232 rfl) rfl
theorem q603 : (Jvm.Cond.lays "NandHouse$Store" "NandHouse$Store" "logged" "I") ∈ lw_all := lw_g (lw_at lw_m2 233 rfl) rfl
theorem q604 : (Jvm.Cond.soleField "NandHouse$Store" "logged") ∈ lw_all := lw_g (lw_at lw_m2 234 rfl) rfl
theorem q605 : (Jvm.Cond.laysFinal "NandHouse$Store" "NandHouse$Store" "buds" "[I") ∈ lw_all := lw_g (lw_at lw_m2 235 rfl) rfl
theorem q606 : (Jvm.Cond.soleField "NandHouse$Store" "buds") ∈ lw_all := lw_g (lw_at lw_m2 236 rfl) rfl
theorem q607 : (Jvm.Cond.lays "NandHouse$Store" "NandHouse$Store" "budCount" "I") ∈ lw_all := lw_g (lw_at lw_m2 237 rfl) rfl
theorem q608 : (Jvm.Cond.soleField "NandHouse$Store" "budCount") ∈ lw_all := lw_g (lw_at lw_m2 238 rfl) rfl
theorem q609 : (Jvm.Cond.lays "NandHouse$Store" "NandHouse$Store" "commit" "I") ∈ lw_all := lw_g (lw_at lw_m2 239 rfl) rfl
theorem q610 : (Jvm.Cond.soleField "NandHouse$Store" "commit") ∈ lw_all := lw_g (lw_at lw_m3 0 rfl) rfl
theorem q611 : (Jvm.Cond.lays "NandHouse$Store" "NandHouse$Store" "commits" "Z") ∈ lw_all := lw_g (lw_at lw_m3 1 rfl) rfl
theorem q612 : (Jvm.Cond.soleField "NandHouse$Store" "commits") ∈ lw_all := lw_g (lw_at lw_m3 2 rfl) rfl
theorem q613 : (Jvm.Cond.lays "NandHouse$Store" "NandHouse$Store" "tableNumber" "I") ∈ lw_all := lw_g (lw_at lw_m3 3 rfl) rfl
theorem q614 : (Jvm.Cond.soleField "NandHouse$Store" "tableNumber") ∈ lw_all := lw_g (lw_at lw_m3 4 rfl) rfl
theorem q615 : (Jvm.Cond.lays "NandHouse$Store" "NandHouse$Store" "tablePlace" "I") ∈ lw_all := lw_g (lw_at lw_m3 5 rfl) rfl
theorem q616 : (Jvm.Cond.soleField "NandHouse$Store" "tablePlace") ∈ lw_all := lw_g (lw_at lw_m3 6 rfl) rfl
theorem q617 : (Jvm.Cond.lays "NandHouse$Store" "NandHouse$Store" "tableSize" "I") ∈ lw_all := lw_g (lw_at lw_m3 7 rfl) rfl
theorem q618 : (Jvm.Cond.soleField "NandHouse$Store" "tableSize") ∈ lw_all := lw_g (lw_at lw_m3 8 rfl) rfl
theorem q619 : (Jvm.Cond.laysFinal "NandHouse$Store" "NandHouse$Store" "orphans" "[I") ∈ lw_all := lw_g (lw_at lw_m3 9 rfl) rfl
theorem q620 : (Jvm.Cond.soleField "NandHouse$Store" "orphans") ∈ lw_all := lw_g (lw_at lw_m3 10 rfl) rfl
theorem q621 : (Jvm.Cond.lays "NandHouse$Store" "NandHouse$Store" "orphanCount" "I") ∈ lw_all := lw_g (lw_at lw_m3 11 rfl) rfl
theorem q622 : (Jvm.Cond.soleField "NandHouse$Store" "orphanCount") ∈ lw_all := lw_g (lw_at lw_m3 12 rfl) rfl
theorem q623 : (Jvm.Cond.lays "NandHouse$Store" "NandHouse$Store" "oldLog" "I") ∈ lw_all := lw_g (lw_at lw_m3 13 rfl) rfl
theorem q624 : (Jvm.Cond.soleField "NandHouse$Store" "oldLog") ∈ lw_all := lw_g (lw_at lw_m3 14 rfl) rfl
theorem q625 : (Jvm.Cond.laysFinal "NandHouse$Store" "NandHouse$Store" "order" "[LNandHouse$Knot;") ∈ lw_all := lw_g (lw_at lw_m3 15 rfl) rfl
theorem q626 : (Jvm.Cond.soleField "NandHouse$Store" "order") ∈ lw_all := lw_g (lw_at lw_m3 16 rfl) rfl
theorem q627 : (Jvm.Cond.lays "NandHouse$Store" "NandHouse$Store" "ordered" "I") ∈ lw_all := lw_g (lw_at lw_m3 17 rfl) rfl
theorem q628 : (Jvm.Cond.soleField "NandHouse$Store" "ordered") ∈ lw_all := lw_g (lw_at lw_m3 18 rfl) rfl
theorem q629 : (Jvm.Cond.lays "NandHouse$Store" "NandHouse$Store" "done" "I") ∈ lw_all := lw_g (lw_at lw_m3 19 rfl) rfl
theorem q630 : (Jvm.Cond.soleField "NandHouse$Store" "done") ∈ lw_all := lw_g (lw_at lw_m3 20 rfl) rfl
theorem q631 : (Jvm.Cond.lays "NandHouse$Store" "NandHouse$Store" "victim" "I") ∈ lw_all := lw_g (lw_at lw_m3 21 rfl) rfl
theorem q632 : (Jvm.Cond.soleField "NandHouse$Store" "victim") ∈ lw_all := lw_g (lw_at lw_m3 22 rfl) rfl
theorem q633 : (Jvm.Cond.lays "NandHouse$Store" "NandHouse$Store" "victimPlace" "I") ∈ lw_all := lw_g (lw_at lw_m3 23 rfl) rfl
theorem q634 : (Jvm.Cond.soleField "NandHouse$Store" "victimPlace") ∈ lw_all := lw_g (lw_at lw_m3 24 rfl) rfl
theorem q635 : (Jvm.Cond.lays "NandHouse$Store" "NandHouse$Store" "collected" "Z") ∈ lw_all := lw_g (lw_at lw_m3 25 rfl) rfl
theorem q636 : (Jvm.Cond.soleField "NandHouse$Store" "collected") ∈ lw_all := lw_g (lw_at lw_m3 26 rfl) rfl
theorem q637 : (Jvm.Cond.laysFinal "NandHouse$Store" "NandHouse$Store" "whole" "I") ∈ lw_all := lw_g (lw_at lw_m3 27 rfl) rfl
theorem q638 : (Jvm.Cond.soleField "NandHouse$Store" "whole") ∈ lw_all := lw_g (lw_at lw_m3 28 rfl) rfl
theorem q639 : (Jvm.Cond.laysFinal "NandHouse$Store" "NandHouse$Store" "table" "I") ∈ lw_all := lw_g (lw_at lw_m3 29 rfl) rfl
theorem q640 : (Jvm.Cond.soleField "NandHouse$Store" "table") ∈ lw_all := lw_g (lw_at lw_m3 30 rfl) rfl
theorem q641 : (Jvm.Cond.lays "NandHouse$Store" "NandHouse$Store" "again" "J") ∈ lw_all := lw_g (lw_at lw_m3 31 rfl) rfl
theorem q642 : (Jvm.Cond.soleField "NandHouse$Store" "again") ∈ lw_all := lw_g (lw_at lw_m3 32 rfl) rfl
theorem q643 : (Jvm.Cond.superclass "NandHouse$Store" "java/lang/Object") ∈ lw_all := lw_g (lw_at lw_m3 33 rfl) rfl
theorem q645 : (Jvm.Cond.instanceMethod ({ cls := "NandHouse$Store", name := "format", desc := "()V" } : Jvm.MethodName)) ∈ lw_all := lw_g (lw_at lw_m3 35 rfl) rfl
theorem q646 : (Jvm.Cond.selects "NandHouse$Store" ({ cls := "NandHouse$Store", name := "format", desc := "()V" } : Jvm.MethodName) ({ cls := "NandHouse$Store", name := "format", desc := "()V" } : Jvm.MethodName)) ∈ lw_all := lw_g (lw_at lw_m3 36 rfl) rfl
theorem q647 : (Jvm.Cond.code ({ cls := "NandHouse$Store", name := "format", desc := "()V" } : Jvm.MethodName) prog_9_method_36_code (2 : Nat) (Option.none : Option Jvm.ClassFile.FieldType)) ∈ lw_all := lw_g (lw_at lw_m3 37 rfl) rfl
theorem q648 : (Jvm.Cond.methodLink "NandHouse$Store" (486 : Nat) ({ cls := "NandHouse$Blocks", name := "format", desc := "()V" } : Jvm.MethodName)) ∈ lw_all := lw_g (lw_at lw_m3 38 rfl) rfl
theorem q712 : (Jvm.Cond.methodLink "NandHouse$Store" (489 : Nat) ({ cls := "NandHouse$Space", name := "clear", desc := "()V" } : Jvm.MethodName)) ∈ lw_all := lw_g (lw_at lw_m3 102 rfl) rfl
theorem q720 : (Jvm.Cond.methodLink "NandHouse$Store" (490 : Nat) ({ cls := "NandHouse$Index", name := "clear", desc := "()V" } : Jvm.MethodName)) ∈ lw_all := lw_g (lw_at lw_m3 110 rfl) rfl
theorem q736 : (Jvm.Cond.methodLink "NandHouse$Store" (145 : Nat) ({ cls := "NandHouse$Row", name := "clear", desc := "()V" } : Jvm.MethodName)) ∈ lw_all := lw_g (lw_at lw_m3 126 rfl) rfl
theorem q740 : (Jvm.Cond.methodLink "NandHouse$Store" (253 : Nat) ({ cls := "NandHouse$Row", name := "begin", desc := "(II)LNandHouse$Row;" } : Jvm.MethodName)) ∈ lw_all := lw_g (lw_at lw_m3 130 rfl) rfl
theorem q747 : (Jvm.Cond.methodLink "NandHouse$Store" (257 : Nat) ({ cls := "NandHouse$Row", name := "put", desc := "(II)LNandHouse$Row;" } : Jvm.MethodName)) ∈ lw_all := lw_g (lw_at lw_m3 137 rfl) rfl
theorem q751 : (Jvm.Cond.methodLink "NandHouse$Store" (212 : Nat) ({ cls := "NandHouse$Store", name := "serial", desc := "()J" } : Jvm.MethodName)) ∈ lw_all := lw_g (lw_at lw_m3 141 rfl) rfl
theorem q752 : (Jvm.Cond.instanceMethod ({ cls := "NandHouse$Store", name := "serial", desc := "()J" } : Jvm.MethodName)) ∈ lw_all := lw_g (lw_at lw_m3 142 rfl) rfl
theorem q753 : (Jvm.Cond.selects "NandHouse$Store" ({ cls := "NandHouse$Store", name := "serial", desc := "()J" } : Jvm.MethodName) ({ cls := "NandHouse$Store", name := "serial", desc := "()J" } : Jvm.MethodName)) ∈ lw_all := lw_g (lw_at lw_m3 143 rfl) rfl
theorem q754 : (Jvm.Cond.code ({ cls := "NandHouse$Store", name := "serial", desc := "()J" } : Jvm.MethodName) prog_9_method_3_code (1 : Nat) (Option.some Jvm.ClassFile.FieldType.long)) ∈ lw_all := lw_g (lw_at lw_m3 144 rfl) rfl
theorem q755 : (Jvm.Cond.methodLink "NandHouse$Store" (219 : Nat) ({ cls := "NandHouse$Row", name := "close", desc := "(JZ)V" } : Jvm.MethodName)) ∈ lw_all := lw_g (lw_at lw_m3 145 rfl) rfl
theorem q771 : (Jvm.Cond.methodLink "NandHouse$Store" (235 : Nat) ({ cls := "NandHouse$Space", name := "fetch", desc := "()I" } : Jvm.MethodName)) ∈ lw_all := lw_g (lw_at lw_m3 161 rfl) rfl
theorem q852 : (Jvm.Cond.methodLink "NandHouse$Store" (241 : Nat) ({ cls := "NandHouse$Writer", name := "open", desc := "(I)V" } : Jvm.MethodName)) ∈ lw_all := lw_g (lw_at lw_m4 2 rfl) rfl
theorem q856 : (Jvm.Cond.methodLink "NandHouse$Store" (199 : Nat) ({ cls := "NandHouse$Writer", name := "put", desc := "([BII)I" } : Jvm.MethodName)) ∈ lw_all := lw_g (lw_at lw_m4 6 rfl) rfl
theorem q893 : (Jvm.Cond.methodLinkNest "NandHouse$Store" (460 : Nat) ({ cls := "NandHouse", name := "keyOf", desc := "(II)J" } : Jvm.MethodName) "NandHouse") ∈ lw_tbl := lw_at lw_m4 43 rfl
theorem q897 : (Jvm.Cond.methodLink "NandHouse$Store" (457 : Nat) ({ cls := "NandHouse$Index", name := "put", desc := "(JJIII)V" } : Jvm.MethodName)) ∈ lw_all := lw_g (lw_at lw_m4 47 rfl) rfl
theorem q959 : (Jvm.Cond.methodLink "NandHouse$Store" (229 : Nat) ({ cls := "NandHouse$Store", name := "commitAll", desc := "()V" } : Jvm.MethodName)) ∈ lw_all := lw_g (lw_at lw_m4 109 rfl) rfl
theorem q960 : (Jvm.Cond.privateMethod ({ cls := "NandHouse$Store", name := "commitAll", desc := "()V" } : Jvm.MethodName)) ∈ lw_tbl := lw_at lw_m4 110 rfl
theorem q961 : (Jvm.Cond.instanceMethod ({ cls := "NandHouse$Store", name := "commitAll", desc := "()V" } : Jvm.MethodName)) ∈ lw_all := lw_g (lw_at lw_m4 111 rfl) rfl
theorem q962 : (Jvm.Cond.code ({ cls := "NandHouse$Store", name := "commitAll", desc := "()V" } : Jvm.MethodName) prog_9_method_23_code (1 : Nat) (Option.none : Option Jvm.ClassFile.FieldType)) ∈ lw_all := lw_g (lw_at lw_m4 112 rfl) rfl
theorem q963 : (Jvm.Cond.methodLink "NandHouse$Store" (184 : Nat) ({ cls := "NandHouse$Store", name := "finish", desc := "()V" } : Jvm.MethodName)) ∈ lw_all := lw_g (lw_at lw_m4 113 rfl) rfl
theorem q964 : (Jvm.Cond.instanceMethod ({ cls := "NandHouse$Store", name := "finish", desc := "()V" } : Jvm.MethodName)) ∈ lw_all := lw_g (lw_at lw_m4 114 rfl) rfl
theorem q965 : (Jvm.Cond.selects "NandHouse$Store" ({ cls := "NandHouse$Store", name := "finish", desc := "()V" } : Jvm.MethodName) ({ cls := "NandHouse$Store", name := "finish", desc := "()V" } : Jvm.MethodName)) ∈ lw_all := lw_g (lw_at lw_m4 115 rfl) rfl
theorem q966 : (Jvm.Cond.code ({ cls := "NandHouse$Store", name := "finish", desc := "()V" } : Jvm.MethodName) prog_9_method_22_code (1 : Nat) (Option.none : Option Jvm.ClassFile.FieldType)) ∈ lw_all := lw_g (lw_at lw_m4 116 rfl) rfl
theorem q967 : (Jvm.Cond.methodLink "NandHouse$Store" (392 : Nat) ({ cls := "NandHouse$Store", name := "commitStep", desc := "()V" } : Jvm.MethodName)) ∈ lw_all := lw_g (lw_at lw_m4 117 rfl) rfl
theorem q968 : (Jvm.Cond.privateMethod ({ cls := "NandHouse$Store", name := "commitStep", desc := "()V" } : Jvm.MethodName)) ∈ lw_tbl := lw_at lw_m4 118 rfl
theorem q969 : (Jvm.Cond.instanceMethod ({ cls := "NandHouse$Store", name := "commitStep", desc := "()V" } : Jvm.MethodName)) ∈ lw_all := lw_g (lw_at lw_m4 119 rfl) rfl
theorem q970 : (Jvm.Cond.code ({ cls := "NandHouse$Store", name := "commitStep", desc := "()V" } : Jvm.MethodName) prog_9_method_17_code (1 : Nat) (Option.none : Option Jvm.ClassFile.FieldType)) ∈ lw_all := lw_g (lw_at lw_m4 120 rfl) rfl
theorem q971 : (Jvm.Cond.methodLink "NandHouse$Store" (324 : Nat) ({ cls := "NandHouse$Store", name := "writeKnot", desc := "(LNandHouse$Knot;)V" } : Jvm.MethodName)) ∈ lw_all := lw_g (lw_at lw_m4 121 rfl) rfl
theorem q972 : (Jvm.Cond.privateMethod ({ cls := "NandHouse$Store", name := "writeKnot", desc := "(LNandHouse$Knot;)V" } : Jvm.MethodName)) ∈ lw_tbl := lw_at lw_m4 122 rfl
theorem q973 : (Jvm.Cond.instanceMethod ({ cls := "NandHouse$Store", name := "writeKnot", desc := "(LNandHouse$Knot;)V" } : Jvm.MethodName)) ∈ lw_all := lw_g (lw_at lw_m4 123 rfl) rfl
theorem q974 : (Jvm.Cond.code ({ cls := "NandHouse$Store", name := "writeKnot", desc := "(LNandHouse$Knot;)V" } : Jvm.MethodName) prog_9_method_18_code (4 : Nat) (Option.none : Option Jvm.ClassFile.FieldType)) ∈ lw_all := lw_g (lw_at lw_m4 124 rfl) rfl
theorem q975 : (Jvm.Cond.methodLink "NandHouse$Store" (330 : Nat) ({ cls := "NandHouse$Index", name := "sizeOf", desc := "(LNandHouse$Knot;)I" } : Jvm.MethodName)) ∈ lw_all := lw_g (lw_at lw_m4 125 rfl) rfl
theorem q979 : (Jvm.Cond.methodLink "NandHouse$Store" (337 : Nat) ({ cls := "NandHouse$Row", name := "putLongAt", desc := "(IJ)LNandHouse$Row;" } : Jvm.MethodName)) ∈ lw_all := lw_g (lw_at lw_m4 129 rfl) rfl
theorem q983 : (Jvm.Cond.methodLink "NandHouse$Store" (359 : Nat) ({ cls := "NandHouse$Store", name := "room", desc := "(LNandHouse$Writer;I)V" } : Jvm.MethodName)) ∈ lw_all := lw_g (lw_at lw_m4 133 rfl) rfl
theorem q984 : (Jvm.Cond.privateMethod ({ cls := "NandHouse$Store", name := "room", desc := "(LNandHouse$Writer;I)V" } : Jvm.MethodName)) ∈ lw_tbl := lw_at lw_m4 134 rfl
theorem q985 : (Jvm.Cond.instanceMethod ({ cls := "NandHouse$Store", name := "room", desc := "(LNandHouse$Writer;I)V" } : Jvm.MethodName)) ∈ lw_all := lw_g (lw_at lw_m4 135 rfl) rfl
theorem q986 : (Jvm.Cond.code ({ cls := "NandHouse$Store", name := "room", desc := "(LNandHouse$Writer;I)V" } : Jvm.MethodName) prog_9_method_19_code (3 : Nat) (Option.none : Option Jvm.ClassFile.FieldType)) ∈ lw_all := lw_g (lw_at lw_m4 136 rfl) rfl
theorem q987 : (Jvm.Cond.methodLink "NandHouse$Store" (187 : Nat) ({ cls := "NandHouse$Writer", name := "takes", desc := "(I)Z" } : Jvm.MethodName)) ∈ lw_all := lw_g (lw_at lw_m4 137 rfl) rfl
theorem q991 : (Jvm.Cond.methodLink "NandHouse$Store" (366 : Nat) ({ cls := "NandHouse$Writer", name := "close", desc := "()V" } : Jvm.MethodName)) ∈ lw_all := lw_g (lw_at lw_m4 141 rfl) rfl
theorem q999 : (Jvm.Cond.methodLink "NandHouse$Store" (327 : Nat) ({ cls := "NandHouse$Store", name := "endCommit", desc := "()V" } : Jvm.MethodName)) ∈ lw_all := lw_g (lw_at lw_m4 149 rfl) rfl
theorem q1000 : (Jvm.Cond.privateMethod ({ cls := "NandHouse$Store", name := "endCommit", desc := "()V" } : Jvm.MethodName)) ∈ lw_tbl := lw_at lw_m4 150 rfl
theorem q1001 : (Jvm.Cond.instanceMethod ({ cls := "NandHouse$Store", name := "endCommit", desc := "()V" } : Jvm.MethodName)) ∈ lw_all := lw_g (lw_at lw_m4 151 rfl) rfl
theorem q1002 : (Jvm.Cond.code ({ cls := "NandHouse$Store", name := "endCommit", desc := "()V" } : Jvm.MethodName) prog_9_method_21_code (2 : Nat) (Option.none : Option Jvm.ClassFile.FieldType)) ∈ lw_all := lw_g (lw_at lw_m4 152 rfl) rfl
theorem q1003 : (Jvm.Cond.methodLink "NandHouse$Store" (378 : Nat) ({ cls := "NandHouse$Index", name := "written", desc := "()V" } : Jvm.MethodName)) ∈ lw_all := lw_g (lw_at lw_m4 153 rfl) rfl
theorem q1007 : (Jvm.Cond.methodLink "NandHouse$Store" (380 : Nat) ({ cls := "NandHouse$Store", name := "writeTable", desc := "()V" } : Jvm.MethodName)) ∈ lw_all := lw_g (lw_at lw_m4 157 rfl) rfl
theorem q1008 : (Jvm.Cond.privateMethod ({ cls := "NandHouse$Store", name := "writeTable", desc := "()V" } : Jvm.MethodName)) ∈ lw_tbl := lw_at lw_m4 158 rfl
theorem q1009 : (Jvm.Cond.instanceMethod ({ cls := "NandHouse$Store", name := "writeTable", desc := "()V" } : Jvm.MethodName)) ∈ lw_all := lw_g (lw_at lw_m4 159 rfl) rfl
theorem q1010 : (Jvm.Cond.code ({ cls := "NandHouse$Store", name := "writeTable", desc := "()V" } : Jvm.MethodName) prog_9_method_20_code (2 : Nat) (Option.none : Option Jvm.ClassFile.FieldType)) ∈ lw_all := lw_g (lw_at lw_m4 160 rfl) rfl
theorem q1011 : (Jvm.Cond.methodLink "NandHouse$Store" (244 : Nat) ({ cls := "NandHouse$Writer", name := "flush", desc := "()V" } : Jvm.MethodName)) ∈ lw_all := lw_g (lw_at lw_m4 161 rfl) rfl
theorem q1012 : (Jvm.Cond.methodLink "NandHouse$Store" (259 : Nat) ({ cls := "NandHouse$Store", name := "sheetOf", desc := "(III)V" } : Jvm.MethodName)) ∈ lw_all := lw_g (lw_at lw_m4 162 rfl) rfl
theorem q1013 : (Jvm.Cond.privateMethod ({ cls := "NandHouse$Store", name := "sheetOf", desc := "(III)V" } : Jvm.MethodName)) ∈ lw_tbl := lw_at lw_m4 163 rfl
theorem q1014 : (Jvm.Cond.instanceMethod ({ cls := "NandHouse$Store", name := "sheetOf", desc := "(III)V" } : Jvm.MethodName)) ∈ lw_all := lw_g (lw_at lw_m4 164 rfl) rfl
theorem q1015 : (Jvm.Cond.code ({ cls := "NandHouse$Store", name := "sheetOf", desc := "(III)V" } : Jvm.MethodName) prog_9_method_13_code (4 : Nat) (Option.none : Option Jvm.ClassFile.FieldType)) ∈ lw_all := lw_g (lw_at lw_m4 165 rfl) rfl
theorem q1016 : (Jvm.Cond.methodLink "NandHouse$Store" (247 : Nat) ({ cls := "java/util/Arrays", name := "fill", desc := "([BB)V" } : Jvm.MethodName)) ∈ lw_all := lw_g (lw_at lw_m4 166 rfl) rfl
theorem q1017 : (Jvm.Cond.methodLink "NandHouse$Store" (170 : Nat) ({ cls := "NandHouse$Blocks", name := "written", desc := "(I)I" } : Jvm.MethodName)) ∈ lw_all := lw_g (lw_at lw_m4 167 rfl) rfl
theorem q1026 : (Jvm.Cond.methodLink "NandHouse$Store" (383 : Nat) ({ cls := "NandHouse$Blocks", name := "pages", desc := "()I" } : Jvm.MethodName)) ∈ lw_all := lw_g (lw_at lw_m4 176 rfl) rfl
theorem q1027 : (Jvm.Cond.methodLink "NandHouse$Store" (287 : Nat) ({ cls := "NandHouse$Blocks", name := "drop", desc := "(I)V" } : Jvm.MethodName)) ∈ lw_all := lw_g (lw_at lw_m4 177 rfl) rfl
theorem q1028 : (Jvm.Cond.methodLink "NandHouse$Store" (266 : Nat) ({ cls := "NandHouse$Blocks", name := "write", desc := "(II[BI)V" } : Jvm.MethodName)) ∈ lw_all := lw_g (lw_at lw_m4 178 rfl) rfl
theorem q1029 : (Jvm.Cond.methodLink "NandHouse$Store" (386 : Nat) ({ cls := "NandHouse$Space", name := "sweep", desc := "()V" } : Jvm.MethodName)) ∈ lw_all := lw_g (lw_at lw_m4 179 rfl) rfl
theorem q1033 : (Jvm.Cond.methodLink "NandHouse$Store" (395 : Nat) ({ cls := "NandHouse$Store", name := "beginCommit", desc := "()V" } : Jvm.MethodName)) ∈ lw_all := lw_g (lw_at lw_m4 183 rfl) rfl
theorem q1034 : (Jvm.Cond.privateMethod ({ cls := "NandHouse$Store", name := "beginCommit", desc := "()V" } : Jvm.MethodName)) ∈ lw_tbl := lw_at lw_m4 184 rfl
theorem q1035 : (Jvm.Cond.instanceMethod ({ cls := "NandHouse$Store", name := "beginCommit", desc := "()V" } : Jvm.MethodName)) ∈ lw_all := lw_g (lw_at lw_m4 185 rfl) rfl
theorem q1036 : (Jvm.Cond.code ({ cls := "NandHouse$Store", name := "beginCommit", desc := "()V" } : Jvm.MethodName) prog_9_method_15_code (2 : Nat) (Option.none : Option Jvm.ClassFile.FieldType)) ∈ lw_all := lw_g (lw_at lw_m4 186 rfl) rfl
theorem q1037 : (Jvm.Cond.methodLink "NandHouse$Store" (269 : Nat) ({ cls := "NandHouse$Space", name := "empty", desc := "()I" } : Jvm.MethodName)) ∈ lw_all := lw_g (lw_at lw_m4 187 rfl) rfl
theorem q1041 : (Jvm.Cond.methodLink "NandHouse$Store" (276 : Nat) ({ cls := "NandHouse$Index", name := "freshBytes", desc := "(LNandHouse$Knot;)I" } : Jvm.MethodName)) ∈ lw_all := lw_g (lw_at lw_m4 191 rfl) rfl
theorem q1047 : (Jvm.Cond.methodLink "NandHouse$Store" (280 : Nat) ({ cls := "NandHouse$Index", name := "stirAll", desc := "(LNandHouse$Knot;)V" } : Jvm.MethodName)) ∈ lw_all := lw_g (lw_at lw_m4 197 rfl) rfl
theorem q1052 : (Jvm.Cond.methodLink "NandHouse$Store" (238 : Nat) ({ cls := "NandHouse$Store", name := "logBud", desc := "(II)V" } : Jvm.MethodName)) ∈ lw_all := lw_g (lw_at lw_m4 202 rfl) rfl
theorem q1053 : (Jvm.Cond.privateMethod ({ cls := "NandHouse$Store", name := "logBud", desc := "(II)V" } : Jvm.MethodName)) ∈ lw_tbl := lw_at lw_m4 203 rfl
theorem q1054 : (Jvm.Cond.instanceMethod ({ cls := "NandHouse$Store", name := "logBud", desc := "(II)V" } : Jvm.MethodName)) ∈ lw_all := lw_g (lw_at lw_m4 204 rfl) rfl
theorem q1055 : (Jvm.Cond.code ({ cls := "NandHouse$Store", name := "logBud", desc := "(II)V" } : Jvm.MethodName) prog_9_method_14_code (3 : Nat) (Option.none : Option Jvm.ClassFile.FieldType)) ∈ lw_all := lw_g (lw_at lw_m4 205 rfl) rfl
theorem q1056 : (Jvm.Cond.methodLink "NandHouse$Store" (305 : Nat) ({ cls := "NandHouse$Store", name := "line", desc := "(LNandHouse$Knot;)V" } : Jvm.MethodName)) ∈ lw_all := lw_g (lw_at lw_m4 206 rfl) rfl
theorem q1057 : (Jvm.Cond.privateMethod ({ cls := "NandHouse$Store", name := "line", desc := "(LNandHouse$Knot;)V" } : Jvm.MethodName)) ∈ lw_tbl := lw_at lw_m4 207 rfl
theorem q1058 : (Jvm.Cond.instanceMethod ({ cls := "NandHouse$Store", name := "line", desc := "(LNandHouse$Knot;)V" } : Jvm.MethodName)) ∈ lw_all := lw_g (lw_at lw_m4 208 rfl) rfl
theorem q1059 : (Jvm.Cond.code ({ cls := "NandHouse$Store", name := "line", desc := "(LNandHouse$Knot;)V" } : Jvm.MethodName) prog_9_method_16_code (3 : Nat) (Option.none : Option Jvm.ClassFile.FieldType)) ∈ lw_all := lw_g (lw_at lw_m4 209 rfl) rfl
theorem q1184 : (Jvm.Cond.instanceMethod ({ cls := "NandHouse$Store", name := "read", desc := "(IIILNandHouse$Row;)V" } : Jvm.MethodName)) ∈ lw_all := lw_g (lw_at lw_m5 94 rfl) rfl
theorem q1185 : (Jvm.Cond.selects "NandHouse$Store" ({ cls := "NandHouse$Store", name := "read", desc := "(IIILNandHouse$Row;)V" } : Jvm.MethodName) ({ cls := "NandHouse$Store", name := "read", desc := "(IIILNandHouse$Row;)V" } : Jvm.MethodName)) ∈ lw_all := lw_g (lw_at lw_m5 95 rfl) rfl
theorem q1186 : (Jvm.Cond.code ({ cls := "NandHouse$Store", name := "read", desc := "(IIILNandHouse$Row;)V" } : Jvm.MethodName) prog_9_method_6_code (8 : Nat) (Option.none : Option Jvm.ClassFile.FieldType)) ∈ lw_all := lw_g (lw_at lw_m5 96 rfl) rfl
theorem q1187 : (Jvm.Cond.methodLink "NandHouse$Store" (148 : Nat) ({ cls := "java/lang/Math", name := "min", desc := "(II)I" } : Jvm.MethodName)) ∈ lw_all := lw_g (lw_at lw_m5 97 rfl) rfl
theorem q1190 : (Jvm.Cond.methodLink "NandHouse$Store" (154 : Nat) ({ cls := "NandHouse$Store", name := "readPage", desc := "(II)V" } : Jvm.MethodName)) ∈ lw_all := lw_g (lw_at lw_m5 100 rfl) rfl
theorem q1191 : (Jvm.Cond.privateMethod ({ cls := "NandHouse$Store", name := "readPage", desc := "(II)V" } : Jvm.MethodName)) ∈ lw_tbl := lw_at lw_m5 101 rfl
theorem q1192 : (Jvm.Cond.instanceMethod ({ cls := "NandHouse$Store", name := "readPage", desc := "(II)V" } : Jvm.MethodName)) ∈ lw_all := lw_g (lw_at lw_m5 102 rfl) rfl
theorem q1193 : (Jvm.Cond.code ({ cls := "NandHouse$Store", name := "readPage", desc := "(II)V" } : Jvm.MethodName) prog_9_method_5_code (3 : Nat) (Option.none : Option Jvm.ClassFile.FieldType)) ∈ lw_all := lw_g (lw_at lw_m5 103 rfl) rfl
theorem q1194 : (Jvm.Cond.methodLink "NandHouse$Store" (137 : Nat) ({ cls := "NandHouse$Writer", name := "reads", desc := "(II[BI)Z" } : Jvm.MethodName)) ∈ lw_all := lw_g (lw_at lw_m5 104 rfl) rfl
theorem q1199 : (Jvm.Cond.methodLink "NandHouse$Store" (141 : Nat) ({ cls := "NandHouse$Blocks", name := "read", desc := "(II[BI)V" } : Jvm.MethodName)) ∈ lw_all := lw_g (lw_at lw_m5 109 rfl) rfl
theorem q1205 : (Jvm.Cond.methodLink "NandHouse$Store" (161 : Nat) ({ cls := "java/lang/System", name := "arraycopy", desc := "(Ljava/lang/Object;ILjava/lang/Object;II)V" } : Jvm.MethodName)) ∈ lw_all := lw_g (lw_at lw_m5 115 rfl) rfl
theorem q1258 : (Jvm.Cond.instanceMethod ({ cls := "NandHouse$Store", name := "hand", desc := "(LNandHouse$Row;)V" } : Jvm.MethodName)) ∈ lw_all := lw_g (lw_at lw_m5 168 rfl) rfl
theorem q1259 : (Jvm.Cond.selects "NandHouse$Store" ({ cls := "NandHouse$Store", name := "hand", desc := "(LNandHouse$Row;)V" } : Jvm.MethodName) ({ cls := "NandHouse$Store", name := "hand", desc := "(LNandHouse$Row;)V" } : Jvm.MethodName)) ∈ lw_all := lw_g (lw_at lw_m5 169 rfl) rfl
theorem q1260 : (Jvm.Cond.code ({ cls := "NandHouse$Store", name := "hand", desc := "(LNandHouse$Row;)V" } : Jvm.MethodName) prog_9_method_9_code (5 : Nat) (Option.none : Option Jvm.ClassFile.FieldType)) ∈ lw_all := lw_g (lw_at lw_m5 170 rfl) rfl
theorem q1261 : (Jvm.Cond.methodLink "NandHouse$Store" (190 : Nat) ({ cls := "NandHouse$Store", name := "bud", desc := "()V" } : Jvm.MethodName)) ∈ lw_all := lw_g (lw_at lw_m5 171 rfl) rfl
theorem q1262 : (Jvm.Cond.privateMethod ({ cls := "NandHouse$Store", name := "bud", desc := "()V" } : Jvm.MethodName)) ∈ lw_tbl := lw_at lw_m5 172 rfl
theorem q1263 : (Jvm.Cond.instanceMethod ({ cls := "NandHouse$Store", name := "bud", desc := "()V" } : Jvm.MethodName)) ∈ lw_all := lw_g (lw_at lw_m5 173 rfl) rfl
theorem q1264 : (Jvm.Cond.code ({ cls := "NandHouse$Store", name := "bud", desc := "()V" } : Jvm.MethodName) prog_9_method_11_code (2 : Nat) (Option.none : Option Jvm.ClassFile.FieldType)) ∈ lw_all := lw_g (lw_at lw_m5 174 rfl) rfl
theorem q1265 : (Jvm.Cond.methodLink "NandHouse$Store" (223 : Nat) ({ cls := "NandHouse$Store", name := "sync", desc := "()V" } : Jvm.MethodName)) ∈ lw_all := lw_g (lw_at lw_m5 175 rfl) rfl
theorem q1266 : (Jvm.Cond.instanceMethod ({ cls := "NandHouse$Store", name := "sync", desc := "()V" } : Jvm.MethodName)) ∈ lw_all := lw_g (lw_at lw_m5 176 rfl) rfl
theorem q1267 : (Jvm.Cond.selects "NandHouse$Store" ({ cls := "NandHouse$Store", name := "sync", desc := "()V" } : Jvm.MethodName) ({ cls := "NandHouse$Store", name := "sync", desc := "()V" } : Jvm.MethodName)) ∈ lw_all := lw_g (lw_at lw_m5 177 rfl) rfl
theorem q1268 : (Jvm.Cond.code ({ cls := "NandHouse$Store", name := "sync", desc := "()V" } : Jvm.MethodName) prog_9_method_12_code (1 : Nat) (Option.none : Option Jvm.ClassFile.FieldType)) ∈ lw_all := lw_g (lw_at lw_m5 178 rfl) rfl
theorem q1269 : (Jvm.Cond.methodLink "NandHouse$Store" (232 : Nat) ({ cls := "NandHouse$Store", name := "makeRoom", desc := "()V" } : Jvm.MethodName)) ∈ lw_all := lw_g (lw_at lw_m5 179 rfl) rfl
theorem q1270 : (Jvm.Cond.privateMethod ({ cls := "NandHouse$Store", name := "makeRoom", desc := "()V" } : Jvm.MethodName)) ∈ lw_tbl := lw_at lw_m5 180 rfl
theorem q1271 : (Jvm.Cond.instanceMethod ({ cls := "NandHouse$Store", name := "makeRoom", desc := "()V" } : Jvm.MethodName)) ∈ lw_all := lw_g (lw_at lw_m5 181 rfl) rfl
theorem q1272 : (Jvm.Cond.code ({ cls := "NandHouse$Store", name := "makeRoom", desc := "()V" } : Jvm.MethodName) prog_9_method_25_code (3 : Nat) (Option.none : Option Jvm.ClassFile.FieldType)) ∈ lw_all := lw_g (lw_at lw_m5 182 rfl) rfl
theorem q1273 : (Jvm.Cond.methodLink "NandHouse$Store" (398 : Nat) ({ cls := "NandHouse$Store", name := "isShort", desc := "()Z" } : Jvm.MethodName)) ∈ lw_all := lw_g (lw_at lw_m5 183 rfl) rfl
theorem q1274 : (Jvm.Cond.privateMethod ({ cls := "NandHouse$Store", name := "isShort", desc := "()Z" } : Jvm.MethodName)) ∈ lw_tbl := lw_at lw_m5 184 rfl
theorem q1275 : (Jvm.Cond.instanceMethod ({ cls := "NandHouse$Store", name := "isShort", desc := "()Z" } : Jvm.MethodName)) ∈ lw_all := lw_g (lw_at lw_m5 185 rfl) rfl
theorem q1276 : (Jvm.Cond.code ({ cls := "NandHouse$Store", name := "isShort", desc := "()Z" } : Jvm.MethodName) prog_9_method_26_code (1 : Nat) (Option.some Jvm.ClassFile.FieldType.boolean)) ∈ lw_all := lw_g (lw_at lw_m5 186 rfl) rfl
theorem q1277 : (Jvm.Cond.methodLink "NandHouse$Store" (411 : Nat) ({ cls := "NandHouse$Space", name := "roomy", desc := "()I" } : Jvm.MethodName)) ∈ lw_all := lw_g (lw_at lw_m5 187 rfl) rfl
theorem q1281 : (Jvm.Cond.methodLink "NandHouse$Store" (401 : Nat) ({ cls := "NandHouse$Store", name := "pick", desc := "(Z)Z" } : Jvm.MethodName)) ∈ lw_all := lw_g (lw_at lw_m5 191 rfl) rfl
theorem q1282 : (Jvm.Cond.privateMethod ({ cls := "NandHouse$Store", name := "pick", desc := "(Z)Z" } : Jvm.MethodName)) ∈ lw_tbl := lw_at lw_m5 192 rfl
theorem q1283 : (Jvm.Cond.instanceMethod ({ cls := "NandHouse$Store", name := "pick", desc := "(Z)Z" } : Jvm.MethodName)) ∈ lw_all := lw_g (lw_at lw_m5 193 rfl) rfl
theorem q1284 : (Jvm.Cond.code ({ cls := "NandHouse$Store", name := "pick", desc := "(Z)Z" } : Jvm.MethodName) prog_9_method_28_code (4 : Nat) (Option.some Jvm.ClassFile.FieldType.boolean)) ∈ lw_all := lw_g (lw_at lw_m5 194 rfl) rfl
theorem q1285 : (Jvm.Cond.methodLink "NandHouse$Store" (405 : Nat) ({ cls := "NandHouse$Store", name := "collectStep", desc := "()V" } : Jvm.MethodName)) ∈ lw_all := lw_g (lw_at lw_m5 195 rfl) rfl
theorem q1286 : (Jvm.Cond.privateMethod ({ cls := "NandHouse$Store", name := "collectStep", desc := "()V" } : Jvm.MethodName)) ∈ lw_tbl := lw_at lw_m5 196 rfl
theorem q1287 : (Jvm.Cond.instanceMethod ({ cls := "NandHouse$Store", name := "collectStep", desc := "()V" } : Jvm.MethodName)) ∈ lw_all := lw_g (lw_at lw_m5 197 rfl) rfl
theorem q1288 : (Jvm.Cond.code ({ cls := "NandHouse$Store", name := "collectStep", desc := "()V" } : Jvm.MethodName) prog_9_method_29_code (2 : Nat) (Option.none : Option Jvm.ClassFile.FieldType)) ∈ lw_all := lw_g (lw_at lw_m5 198 rfl) rfl
theorem q1289 : (Jvm.Cond.methodLink "NandHouse$Store" (417 : Nat) ({ cls := "NandHouse$Store", name := "look", desc := "(IILNandHouse$Row;)I" } : Jvm.MethodName)) ∈ lw_all := lw_g (lw_at lw_m5 199 rfl) rfl
theorem q1290 : (Jvm.Cond.privateMethod ({ cls := "NandHouse$Store", name := "look", desc := "(IILNandHouse$Row;)I" } : Jvm.MethodName)) ∈ lw_tbl := lw_at lw_m5 200 rfl
theorem q1291 : (Jvm.Cond.instanceMethod ({ cls := "NandHouse$Store", name := "look", desc := "(IILNandHouse$Row;)I" } : Jvm.MethodName)) ∈ lw_all := lw_g (lw_at lw_m5 201 rfl) rfl
theorem q1292 : (Jvm.Cond.code ({ cls := "NandHouse$Store", name := "look", desc := "(IILNandHouse$Row;)I" } : Jvm.MethodName) prog_9_method_7_code (6 : Nat) (Option.some Jvm.ClassFile.FieldType.int)) ∈ lw_all := lw_g (lw_at lw_m5 202 rfl) rfl
theorem q1293 : (Jvm.Cond.methodLink "NandHouse$Store" (173 : Nat) ({ cls := "NandHouse$Store", name := "read", desc := "(IIILNandHouse$Row;)V" } : Jvm.MethodName)) ∈ lw_all := lw_g (lw_at lw_m5 203 rfl) rfl
theorem q1294 : (Jvm.Cond.methodLink "NandHouse$Store" (176 : Nat) ({ cls := "NandHouse$Row", name := "length", desc := "()I" } : Jvm.MethodName)) ∈ lw_all := lw_g (lw_at lw_m5 204 rfl) rfl
theorem q1295 : (Jvm.Cond.methodLink "NandHouse$Store" (180 : Nat) ({ cls := "NandHouse$Row", name := "isWhole", desc := "(I)Z" } : Jvm.MethodName)) ∈ lw_all := lw_g (lw_at lw_m5 205 rfl) rfl
theorem q1299 : (Jvm.Cond.methodLink "NandHouse$Store" (421 : Nat) ({ cls := "NandHouse$Store", name := "behindPage", desc := "(I)I" } : Jvm.MethodName)) ∈ lw_all := lw_g (lw_at lw_m5 209 rfl) rfl
theorem q1300 : (Jvm.Cond.static ({ cls := "NandHouse$Store", name := "behindPage", desc := "(I)I" } : Jvm.MethodName)) ∈ lw_all := lw_g (lw_at lw_m5 210 rfl) rfl
theorem q1301 : (Jvm.Cond.code ({ cls := "NandHouse$Store", name := "behindPage", desc := "(I)I" } : Jvm.MethodName) prog_9_method_8_code (1 : Nat) (Option.some Jvm.ClassFile.FieldType.int)) ∈ lw_all := lw_g (lw_at lw_m5 211 rfl) rfl
theorem q1302 : (Jvm.Cond.methodLink "NandHouse$Store" (424 : Nat) ({ cls := "NandHouse$Row", name := "type", desc := "()I" } : Jvm.MethodName)) ∈ lw_all := lw_g (lw_at lw_m5 212 rfl) rfl
theorem q1306 : (Jvm.Cond.methodLink "NandHouse$Store" (427 : Nat) ({ cls := "NandHouse$Row", name := "get", desc := "(I)I" } : Jvm.MethodName)) ∈ lw_all := lw_g (lw_at lw_m5 216 rfl) rfl
theorem q1307 : (Jvm.Cond.methodLink "NandHouse$Store" (430 : Nat) ({ cls := "NandHouse$Row", name := "getLongAt", desc := "(I)J" } : Jvm.MethodName)) ∈ lw_all := lw_g (lw_at lw_m5 217 rfl) rfl
theorem q1308 : (Jvm.Cond.methodLink "NandHouse$Store" (434 : Nat) ({ cls := "NandHouse$Index", name := "stir", desc := "(IJJII)V" } : Jvm.MethodName)) ∈ lw_all := lw_g (lw_at lw_m5 218 rfl) rfl
theorem q1312 : (Jvm.Cond.methodLink "NandHouse$Store" (438 : Nat) ({ cls := "NandHouse$Store", name := "isLeaf", desc := "(I)Z" } : Jvm.MethodName)) ∈ lw_all := lw_g (lw_at lw_m5 222 rfl) rfl
theorem q1313 : (Jvm.Cond.static ({ cls := "NandHouse$Store", name := "isLeaf", desc := "(I)Z" } : Jvm.MethodName)) ∈ lw_all := lw_g (lw_at lw_m5 223 rfl) rfl
theorem q1314 : (Jvm.Cond.code ({ cls := "NandHouse$Store", name := "isLeaf", desc := "(I)Z" } : Jvm.MethodName) prog_9_method_31_code (1 : Nat) (Option.some Jvm.ClassFile.FieldType.boolean)) ∈ lw_all := lw_g (lw_at lw_m5 224 rfl) rfl
theorem q1315 : (Jvm.Cond.methodLink "NandHouse$Store" (441 : Nat) ({ cls := "NandHouse$Store", name := "highOf", desc := "(LNandHouse$Row;)J" } : Jvm.MethodName)) ∈ lw_all := lw_g (lw_at lw_m5 225 rfl) rfl
theorem q1316 : (Jvm.Cond.static ({ cls := "NandHouse$Store", name := "highOf", desc := "(LNandHouse$Row;)J" } : Jvm.MethodName)) ∈ lw_all := lw_g (lw_at lw_m5 226 rfl) rfl
theorem q1317 : (Jvm.Cond.code ({ cls := "NandHouse$Store", name := "highOf", desc := "(LNandHouse$Row;)J" } : Jvm.MethodName) prog_9_method_32_code (2 : Nat) (Option.some Jvm.ClassFile.FieldType.long)) ∈ lw_all := lw_g (lw_at lw_m5 227 rfl) rfl
theorem q1318 : (Jvm.Cond.methodLink "NandHouse$Store" (445 : Nat) ({ cls := "NandHouse$Store", name := "lowOf", desc := "(LNandHouse$Row;)J" } : Jvm.MethodName)) ∈ lw_all := lw_g (lw_at lw_m5 228 rfl) rfl
theorem q1319 : (Jvm.Cond.static ({ cls := "NandHouse$Store", name := "lowOf", desc := "(LNandHouse$Row;)J" } : Jvm.MethodName)) ∈ lw_all := lw_g (lw_at lw_m5 229 rfl) rfl
theorem q1320 : (Jvm.Cond.code ({ cls := "NandHouse$Store", name := "lowOf", desc := "(LNandHouse$Row;)J" } : Jvm.MethodName) prog_9_method_33_code (2 : Nat) (Option.some Jvm.ClassFile.FieldType.long)) ∈ lw_all := lw_g (lw_at lw_m5 230 rfl) rfl
theorem q1321 : (Jvm.Cond.constant "NandHouse$Store" (464 : Nat) (65535 : Int32)) ∈ lw_all := lw_g (lw_at lw_m5 231 rfl) rfl
theorem q1322 : (Jvm.Cond.methodLinkNest "NandHouse$Store" (465 : Nat) ({ cls := "NandHouse", name := "hash", desc := "(J)J" } : Jvm.MethodName) "NandHouse") ∈ lw_tbl := lw_at lw_m5 232 rfl
theorem q1323 : (Jvm.Cond.methodLink "NandHouse$Store" (469 : Nat) ({ cls := "java/lang/Long", name := "reverseBytes", desc := "(J)J" } : Jvm.MethodName)) ∈ lw_all := lw_g (lw_at lw_m5 233 rfl) rfl
theorem q1328 : (Jvm.Cond.methodLink "NandHouse$Store" (448 : Nat) ({ cls := "NandHouse$Index", name := "find", desc := "(JJ)Z" } : Jvm.MethodName)) ∈ lw_all := lw_g (lw_at lw_m5 238 rfl) rfl
theorem q1329 : (Jvm.Cond.methodLink "NandHouse$Store" (454 : Nat) ({ cls := "NandHouse$Store", name := "moveNode", desc := "(I)V" } : Jvm.MethodName)) ∈ lw_all := lw_g (lw_at lw_m5 239 rfl) rfl
theorem q1330 : (Jvm.Cond.privateMethod ({ cls := "NandHouse$Store", name := "moveNode", desc := "(I)V" } : Jvm.MethodName)) ∈ lw_tbl := lw_at lw_m6 0 rfl
theorem q1331 : (Jvm.Cond.instanceMethod ({ cls := "NandHouse$Store", name := "moveNode", desc := "(I)V" } : Jvm.MethodName)) ∈ lw_all := lw_g (lw_at lw_m6 1 rfl) rfl
theorem q1332 : (Jvm.Cond.code ({ cls := "NandHouse$Store", name := "moveNode", desc := "(I)V" } : Jvm.MethodName) prog_9_method_30_code (3 : Nat) (Option.none : Option Jvm.ClassFile.FieldType)) ∈ lw_all := lw_g (lw_at lw_m6 2 rfl) rfl
theorem q1333 : (Jvm.Cond.methodLink "NandHouse$Store" (408 : Nat) ({ cls := "NandHouse$Store", name := "commitWhole", desc := "()V" } : Jvm.MethodName)) ∈ lw_all := lw_g (lw_at lw_m6 3 rfl) rfl
theorem q1334 : (Jvm.Cond.privateMethod ({ cls := "NandHouse$Store", name := "commitWhole", desc := "()V" } : Jvm.MethodName)) ∈ lw_tbl := lw_at lw_m6 4 rfl
theorem q1335 : (Jvm.Cond.instanceMethod ({ cls := "NandHouse$Store", name := "commitWhole", desc := "()V" } : Jvm.MethodName)) ∈ lw_all := lw_g (lw_at lw_m6 5 rfl) rfl
theorem q1336 : (Jvm.Cond.code ({ cls := "NandHouse$Store", name := "commitWhole", desc := "()V" } : Jvm.MethodName) prog_9_method_24_code (1 : Nat) (Option.none : Option Jvm.ClassFile.FieldType)) ∈ lw_all := lw_g (lw_at lw_m6 6 rfl) rfl
theorem q1337 : (Jvm.Cond.methodLink "NandHouse$Store" (193 : Nat) ({ cls := "NandHouse$Store", name := "number", desc := "(LNandHouse$Row;)V" } : Jvm.MethodName)) ∈ lw_all := lw_g (lw_at lw_m6 7 rfl) rfl
theorem q1338 : (Jvm.Cond.privateMethod ({ cls := "NandHouse$Store", name := "number", desc := "(LNandHouse$Row;)V" } : Jvm.MethodName)) ∈ lw_tbl := lw_at lw_m6 8 rfl
theorem q1339 : (Jvm.Cond.instanceMethod ({ cls := "NandHouse$Store", name := "number", desc := "(LNandHouse$Row;)V" } : Jvm.MethodName)) ∈ lw_all := lw_g (lw_at lw_m6 9 rfl) rfl
theorem q1340 : (Jvm.Cond.code ({ cls := "NandHouse$Store", name := "number", desc := "(LNandHouse$Row;)V" } : Jvm.MethodName) prog_9_method_10_code (4 : Nat) (Option.none : Option Jvm.ClassFile.FieldType)) ∈ lw_all := lw_g (lw_at lw_m6 10 rfl) rfl
theorem q1341 : (Jvm.Cond.methodLink "NandHouse$Store" (215 : Nat) ({ cls := "NandHouse$Row", name := "isLast", desc := "()Z" } : Jvm.MethodName)) ∈ lw_all := lw_g (lw_at lw_m6 11 rfl) rfl
theorem q1347 : (Jvm.Cond.instanceMethod ({ cls := "NandHouse$Store", name := "apply", desc := "(LNandHouse$Row;II)V" } : Jvm.MethodName)) ∈ lw_all := lw_g (lw_at lw_m6 17 rfl) rfl
theorem q1348 : (Jvm.Cond.selects "NandHouse$Store" ({ cls := "NandHouse$Store", name := "apply", desc := "(LNandHouse$Row;II)V" } : Jvm.MethodName) ({ cls := "NandHouse$Store", name := "apply", desc := "(LNandHouse$Row;II)V" } : Jvm.MethodName)) ∈ lw_all := lw_g (lw_at lw_m6 18 rfl) rfl
theorem q1349 : (Jvm.Cond.code ({ cls := "NandHouse$Store", name := "apply", desc := "(LNandHouse$Row;II)V" } : Jvm.MethodName) prog_9_method_44_code (6 : Nat) (Option.none : Option Jvm.ClassFile.FieldType)) ∈ lw_all := lw_g (lw_at lw_m6 19 rfl) rfl
theorem q1350 : (Jvm.Cond.methodLink "NandHouse$Store" (539 : Nat) ({ cls := "java/lang/Math", name := "max", desc := "(II)I" } : Jvm.MethodName)) ∈ lw_all := lw_g (lw_at lw_m6 20 rfl) rfl
theorem q1351 : (Jvm.Cond.methodLink "NandHouse$Store" (541 : Nat) ({ cls := "NandHouse$Store", name := "name", desc := "(IZ)V" } : Jvm.MethodName)) ∈ lw_all := lw_g (lw_at lw_m6 21 rfl) rfl
theorem q1352 : (Jvm.Cond.privateMethod ({ cls := "NandHouse$Store", name := "name", desc := "(IZ)V" } : Jvm.MethodName)) ∈ lw_tbl := lw_at lw_m6 22 rfl
theorem q1353 : (Jvm.Cond.instanceMethod ({ cls := "NandHouse$Store", name := "name", desc := "(IZ)V" } : Jvm.MethodName)) ∈ lw_all := lw_g (lw_at lw_m6 23 rfl) rfl
theorem q1354 : (Jvm.Cond.code ({ cls := "NandHouse$Store", name := "name", desc := "(IZ)V" } : Jvm.MethodName) prog_9_method_45_code (4 : Nat) (Option.none : Option Jvm.ClassFile.FieldType)) ∈ lw_all := lw_g (lw_at lw_m6 24 rfl) rfl
theorem q1355 : (Jvm.Cond.methodLink "NandHouse$Store" (545 : Nat) ({ cls := "NandHouse$Store", name := "shorten", desc := "(II)V" } : Jvm.MethodName)) ∈ lw_all := lw_g (lw_at lw_m6 25 rfl) rfl
theorem q1356 : (Jvm.Cond.instanceMethod ({ cls := "NandHouse$Store", name := "shorten", desc := "(II)V" } : Jvm.MethodName)) ∈ lw_all := lw_g (lw_at lw_m6 26 rfl) rfl
theorem q1357 : (Jvm.Cond.selects "NandHouse$Store" ({ cls := "NandHouse$Store", name := "shorten", desc := "(II)V" } : Jvm.MethodName) ({ cls := "NandHouse$Store", name := "shorten", desc := "(II)V" } : Jvm.MethodName)) ∈ lw_all := lw_g (lw_at lw_m6 27 rfl) rfl
theorem q1358 : (Jvm.Cond.code ({ cls := "NandHouse$Store", name := "shorten", desc := "(II)V" } : Jvm.MethodName) prog_9_method_47_code (5 : Nat) (Option.none : Option Jvm.ClassFile.FieldType)) ∈ lw_all := lw_g (lw_at lw_m6 28 rfl) rfl
theorem q1359 : (Jvm.Cond.methodLink "NandHouse$Store" (555 : Nat) ({ cls := "NandHouse$Index", name := "seek", desc := "(JJ)Z" } : Jvm.MethodName)) ∈ lw_all := lw_g (lw_at lw_m6 29 rfl) rfl
theorem q1360 : (Jvm.Cond.methodLink "NandHouse$Store" (551 : Nat) ({ cls := "NandHouse$Index", name := "remove", desc := "(JJ)V" } : Jvm.MethodName)) ∈ lw_all := lw_g (lw_at lw_m6 30 rfl) rfl
theorem q1380 : (Jvm.Cond.methodLink "NandHouse$Store" (548 : Nat) ({ cls := "NandHouse$Store", name := "forget", desc := "(I)V" } : Jvm.MethodName)) ∈ lw_all := lw_g (lw_at lw_m6 50 rfl) rfl
theorem q1381 : (Jvm.Cond.instanceMethod ({ cls := "NandHouse$Store", name := "forget", desc := "(I)V" } : Jvm.MethodName)) ∈ lw_all := lw_g (lw_at lw_m6 51 rfl) rfl
theorem q1382 : (Jvm.Cond.selects "NandHouse$Store" ({ cls := "NandHouse$Store", name := "forget", desc := "(I)V" } : Jvm.MethodName) ({ cls := "NandHouse$Store", name := "forget", desc := "(I)V" } : Jvm.MethodName)) ∈ lw_all := lw_g (lw_at lw_m6 52 rfl) rfl
theorem q1383 : (Jvm.Cond.code ({ cls := "NandHouse$Store", name := "forget", desc := "(I)V" } : Jvm.MethodName) prog_9_method_46_code (2 : Nat) (Option.none : Option Jvm.ClassFile.FieldType)) ∈ lw_all := lw_g (lw_at lw_m6 53 rfl) rfl
theorem q1643 : (Jvm.Cond.instanceMethod ({ cls := "NandHouse$Store", name := "lose", desc := "()V" } : Jvm.MethodName)) ∈ lw_all := lw_g (lw_at lw_m7 73 rfl) rfl
theorem q1644 : (Jvm.Cond.selects "NandHouse$Store" ({ cls := "NandHouse$Store", name := "lose", desc := "()V" } : Jvm.MethodName) ({ cls := "NandHouse$Store", name := "lose", desc := "()V" } : Jvm.MethodName)) ∈ lw_all := lw_g (lw_at lw_m7 74 rfl) rfl
theorem q1645 : (Jvm.Cond.code ({ cls := "NandHouse$Store", name := "lose", desc := "()V" } : Jvm.MethodName) prog_9_method_37_code (1 : Nat) (Option.none : Option Jvm.ClassFile.FieldType)) ∈ lw_all := lw_g (lw_at lw_m7 75 rfl) rfl
theorem q1646 : (Jvm.Cond.methodLink "NandHouse$Store" (491 : Nat) ({ cls := "NandHouse$Writer", name := "lose", desc := "()V" } : Jvm.MethodName)) ∈ lw_all := lw_g (lw_at lw_m7 76 rfl) rfl
theorem q1656 : (Jvm.Cond.instanceMethod ({ cls := "NandHouse$Store", name := "find", desc := "()V" } : Jvm.MethodName)) ∈ lw_all := lw_g (lw_at lw_m7 86 rfl) rfl
theorem q1657 : (Jvm.Cond.selects "NandHouse$Store" ({ cls := "NandHouse$Store", name := "find", desc := "()V" } : Jvm.MethodName) ({ cls := "NandHouse$Store", name := "find", desc := "()V" } : Jvm.MethodName)) ∈ lw_all := lw_g (lw_at lw_m7 87 rfl) rfl
theorem q1658 : (Jvm.Cond.code ({ cls := "NandHouse$Store", name := "find", desc := "()V" } : Jvm.MethodName) prog_9_method_38_code (5 : Nat) (Option.none : Option Jvm.ClassFile.FieldType)) ∈ lw_all := lw_g (lw_at lw_m7 88 rfl) rfl
theorem q1659 : (Jvm.Cond.methodLink "NandHouse$Store" (494 : Nat) ({ cls := "NandHouse$Store", name := "lose", desc := "()V" } : Jvm.MethodName)) ∈ lw_all := lw_g (lw_at lw_m7 89 rfl) rfl
theorem q1660 : (Jvm.Cond.methodLink "NandHouse$Store" (498 : Nat) ({ cls := "NandHouse$Blocks", name := "attach", desc := "()V" } : Jvm.MethodName)) ∈ lw_all := lw_g (lw_at lw_m7 90 rfl) rfl
theorem q1690 : (Jvm.Cond.constantLong "NandHouse$Store" (501 : Nat) (-1 : Int64)) ∈ lw_all := lw_g (lw_at lw_m7 120 rfl) rfl
theorem q1691 : (Jvm.Cond.methodLink "NandHouse$Store" (503 : Nat) ({ cls := "NandHouse$Row", name := "serial", desc := "()J" } : Jvm.MethodName)) ∈ lw_all := lw_g (lw_at lw_m7 121 rfl) rfl
theorem q1695 : (Jvm.Cond.methodLink "NandHouse$Store" (504 : Nat) ({ cls := "NandHouse$Store", name := "load", desc := "(III)LNandHouse$Knot;" } : Jvm.MethodName)) ∈ lw_all := lw_g (lw_at lw_m7 125 rfl) rfl
theorem q1696 : (Jvm.Cond.privateMethod ({ cls := "NandHouse$Store", name := "load", desc := "(III)LNandHouse$Knot;" } : Jvm.MethodName)) ∈ lw_tbl := lw_at lw_m7 126 rfl
theorem q1697 : (Jvm.Cond.instanceMethod ({ cls := "NandHouse$Store", name := "load", desc := "(III)LNandHouse$Knot;" } : Jvm.MethodName)) ∈ lw_all := lw_g (lw_at lw_m7 127 rfl) rfl
theorem q1698 : (Jvm.Cond.code ({ cls := "NandHouse$Store", name := "load", desc := "(III)LNandHouse$Knot;" } : Jvm.MethodName) prog_9_method_40_code (6 : Nat) (Option.some (Jvm.ClassFile.FieldType.object "NandHouse$Knot"))) ∈ lw_all := lw_g (lw_at lw_m7 128 rfl) rfl
theorem q1699 : (Jvm.Cond.methodLink "NandHouse$Store" (511 : Nat) ({ cls := "java/lang/Math", name := "max", desc := "(JJ)J" } : Jvm.MethodName)) ∈ lw_all := lw_g (lw_at lw_m7 129 rfl) rfl
theorem q1700 : (Jvm.Cond.methodLink "NandHouse$Store" (521 : Nat) ({ cls := "NandHouse$Index", name := "fetch", desc := "(I)LNandHouse$Knot;" } : Jvm.MethodName)) ∈ lw_all := lw_g (lw_at lw_m7 130 rfl) rfl
theorem q1701 : (Jvm.Cond.methodLink "NandHouse$Store" (524 : Nat) ({ cls := "NandHouse$Knot", name := "set", desc := "(IJJLNandHouse$Knot;)V" } : Jvm.MethodName)) ∈ lw_all := lw_g (lw_at lw_m7 131 rfl) rfl
theorem q1702 : (Jvm.Cond.methodLink "NandHouse$Store" (508 : Nat) ({ cls := "NandHouse$Index", name := "plant", desc := "(LNandHouse$Knot;)V" } : Jvm.MethodName)) ∈ lw_all := lw_g (lw_at lw_m7 132 rfl) rfl
theorem q1706 : (Jvm.Cond.methodLink "NandHouse$Store" (515 : Nat) ({ cls := "NandHouse$Store", name := "readOrphans", desc := "()V" } : Jvm.MethodName)) ∈ lw_all := lw_g (lw_at lw_m7 136 rfl) rfl
theorem q1707 : (Jvm.Cond.privateMethod ({ cls := "NandHouse$Store", name := "readOrphans", desc := "()V" } : Jvm.MethodName)) ∈ lw_tbl := lw_at lw_m7 137 rfl
theorem q1708 : (Jvm.Cond.instanceMethod ({ cls := "NandHouse$Store", name := "readOrphans", desc := "()V" } : Jvm.MethodName)) ∈ lw_all := lw_g (lw_at lw_m7 138 rfl) rfl
theorem q1709 : (Jvm.Cond.code ({ cls := "NandHouse$Store", name := "readOrphans", desc := "()V" } : Jvm.MethodName) prog_9_method_39_code (2 : Nat) (Option.none : Option Jvm.ClassFile.FieldType)) ∈ lw_all := lw_g (lw_at lw_m7 139 rfl) rfl
theorem q1710 : (Jvm.Cond.methodLink "NandHouse$Store" (518 : Nat) ({ cls := "NandHouse$Store", name := "replay", desc := "(II)V" } : Jvm.MethodName)) ∈ lw_all := lw_g (lw_at lw_m7 140 rfl) rfl
theorem q1711 : (Jvm.Cond.privateMethod ({ cls := "NandHouse$Store", name := "replay", desc := "(II)V" } : Jvm.MethodName)) ∈ lw_tbl := lw_at lw_m7 141 rfl
theorem q1712 : (Jvm.Cond.instanceMethod ({ cls := "NandHouse$Store", name := "replay", desc := "(II)V" } : Jvm.MethodName)) ∈ lw_all := lw_g (lw_at lw_m7 142 rfl) rfl
theorem q1713 : (Jvm.Cond.code ({ cls := "NandHouse$Store", name := "replay", desc := "(II)V" } : Jvm.MethodName) prog_9_method_41_code (7 : Nat) (Option.none : Option Jvm.ClassFile.FieldType)) ∈ lw_all := lw_g (lw_at lw_m7 143 rfl) rfl
theorem q1714 : (Jvm.Cond.methodLink "NandHouse$Store" (528 : Nat) ({ cls := "NandHouse$Store", name := "replayBud", desc := "(IIJ)V" } : Jvm.MethodName)) ∈ lw_all := lw_g (lw_at lw_m7 144 rfl) rfl
theorem q1715 : (Jvm.Cond.privateMethod ({ cls := "NandHouse$Store", name := "replayBud", desc := "(IIJ)V" } : Jvm.MethodName)) ∈ lw_tbl := lw_at lw_m7 145 rfl
theorem q1716 : (Jvm.Cond.instanceMethod ({ cls := "NandHouse$Store", name := "replayBud", desc := "(IIJ)V" } : Jvm.MethodName)) ∈ lw_all := lw_g (lw_at lw_m7 146 rfl) rfl
theorem q1717 : (Jvm.Cond.code ({ cls := "NandHouse$Store", name := "replayBud", desc := "(IIJ)V" } : Jvm.MethodName) prog_9_method_42_code (10 : Nat) (Option.none : Option Jvm.ClassFile.FieldType)) ∈ lw_all := lw_g (lw_at lw_m7 147 rfl) rfl
theorem q1718 : (Jvm.Cond.methodLink "NandHouse$Store" (532 : Nat) ({ cls := "NandHouse$Store", name := "redo", desc := "(II)I" } : Jvm.MethodName)) ∈ lw_all := lw_g (lw_at lw_m7 148 rfl) rfl
theorem q1719 : (Jvm.Cond.privateMethod ({ cls := "NandHouse$Store", name := "redo", desc := "(II)I" } : Jvm.MethodName)) ∈ lw_tbl := lw_at lw_m7 149 rfl
theorem q1720 : (Jvm.Cond.instanceMethod ({ cls := "NandHouse$Store", name := "redo", desc := "(II)I" } : Jvm.MethodName)) ∈ lw_all := lw_g (lw_at lw_m7 150 rfl) rfl
theorem q1721 : (Jvm.Cond.code ({ cls := "NandHouse$Store", name := "redo", desc := "(II)I" } : Jvm.MethodName) prog_9_method_43_code (4 : Nat) (Option.some Jvm.ClassFile.FieldType.int)) ∈ lw_all := lw_g (lw_at lw_m7 151 rfl) rfl
theorem q1722 : (Jvm.Cond.methodLink "NandHouse$Store" (535 : Nat) ({ cls := "NandHouse$Store", name := "apply", desc := "(LNandHouse$Row;II)V" } : Jvm.MethodName)) ∈ lw_all := lw_g (lw_at lw_m7 152 rfl) rfl
theorem q1725 : (Jvm.Cond.instanceMethod ({ cls := "NandHouse$Store", name := "settle", desc := "()V" } : Jvm.MethodName)) ∈ lw_all := lw_g (lw_at lw_m7 155 rfl) rfl
theorem q1726 : (Jvm.Cond.selects "NandHouse$Store" ({ cls := "NandHouse$Store", name := "settle", desc := "()V" } : Jvm.MethodName) ({ cls := "NandHouse$Store", name := "settle", desc := "()V" } : Jvm.MethodName)) ∈ lw_all := lw_g (lw_at lw_m7 156 rfl) rfl
theorem q1727 : (Jvm.Cond.code ({ cls := "NandHouse$Store", name := "settle", desc := "()V" } : Jvm.MethodName) prog_9_method_48_code (2 : Nat) (Option.none : Option Jvm.ClassFile.FieldType)) ∈ lw_all := lw_g (lw_at lw_m7 157 rfl) rfl
theorem q1728 : (Jvm.Cond.constantLong "NandHouse$Store" (562 : Nat) (1000 : Int64)) ∈ lw_all := lw_g (lw_at lw_m7 158 rfl) rfl
theorem q1734 : (Jvm.Cond.instanceMethod ({ cls := "NandHouse$Store", name := "work", desc := "()V" } : Jvm.MethodName)) ∈ lw_all := lw_g (lw_at lw_m7 164 rfl) rfl
theorem q1735 : (Jvm.Cond.selects "NandHouse$Store" ({ cls := "NandHouse$Store", name := "work", desc := "()V" } : Jvm.MethodName) ({ cls := "NandHouse$Store", name := "work", desc := "()V" } : Jvm.MethodName)) ∈ lw_all := lw_g (lw_at lw_m7 165 rfl) rfl
theorem q1736 : (Jvm.Cond.code ({ cls := "NandHouse$Store", name := "work", desc := "()V" } : Jvm.MethodName) prog_9_method_34_code (1 : Nat) (Option.none : Option Jvm.ClassFile.FieldType)) ∈ lw_all := lw_g (lw_at lw_m7 166 rfl) rfl
theorem q1737 : (Jvm.Cond.methodLink "NandHouse$Store" (474 : Nat) ({ cls := "NandHouse$Store", name := "mayMove", desc := "()Z" } : Jvm.MethodName)) ∈ lw_all := lw_g (lw_at lw_m7 167 rfl) rfl
theorem q1738 : (Jvm.Cond.privateMethod ({ cls := "NandHouse$Store", name := "mayMove", desc := "()Z" } : Jvm.MethodName)) ∈ lw_tbl := lw_at lw_m7 168 rfl
theorem q1739 : (Jvm.Cond.instanceMethod ({ cls := "NandHouse$Store", name := "mayMove", desc := "()Z" } : Jvm.MethodName)) ∈ lw_all := lw_g (lw_at lw_m7 169 rfl) rfl
theorem q1740 : (Jvm.Cond.code ({ cls := "NandHouse$Store", name := "mayMove", desc := "()Z" } : Jvm.MethodName) prog_9_method_27_code (1 : Nat) (Option.some Jvm.ClassFile.FieldType.boolean)) ∈ lw_all := lw_g (lw_at lw_m7 170 rfl) rfl
theorem q1741 : (Jvm.Cond.methodLink "NandHouse$Store" (477 : Nat) ({ cls := "NandHouse$Blocks", name := "eraseOne", desc := "()Z" } : Jvm.MethodName)) ∈ lw_all := lw_g (lw_at lw_m7 171 rfl) rfl
theorem q1742 : (Jvm.Cond.methodLink "NandHouse$Store" (480 : Nat) ({ cls := "NandHouse$Blocks", name := "moveStep", desc := "()Z" } : Jvm.MethodName)) ∈ lw_all := lw_g (lw_at lw_m7 172 rfl) rfl
theorem q1766 : (Jvm.Cond.methodLink "NandHouse$Store" (483 : Nat) ({ cls := "NandHouse$Store", name := "choose", desc := "()V" } : Jvm.MethodName)) ∈ lw_all := lw_g (lw_at lw_m7 196 rfl) rfl
theorem q1767 : (Jvm.Cond.privateMethod ({ cls := "NandHouse$Store", name := "choose", desc := "()V" } : Jvm.MethodName)) ∈ lw_tbl := lw_at lw_m7 197 rfl
theorem q1768 : (Jvm.Cond.instanceMethod ({ cls := "NandHouse$Store", name := "choose", desc := "()V" } : Jvm.MethodName)) ∈ lw_all := lw_g (lw_at lw_m7 198 rfl) rfl
theorem q1769 : (Jvm.Cond.code ({ cls := "NandHouse$Store", name := "choose", desc := "()V" } : Jvm.MethodName) prog_9_method_35_code (1 : Nat) (Option.none : Option Jvm.ClassFile.FieldType)) ∈ lw_all := lw_g (lw_at lw_m7 199 rfl) rfl
theorem q1795 : (Jvm.Cond.instanceMethod ({ cls := "NandHouse$Store", name := "place", desc := "()I" } : Jvm.MethodName)) ∈ lw_all := lw_g (lw_at lw_m7 225 rfl) rfl
theorem q1796 : (Jvm.Cond.selects "NandHouse$Store" ({ cls := "NandHouse$Store", name := "place", desc := "()I" } : Jvm.MethodName) ({ cls := "NandHouse$Store", name := "place", desc := "()I" } : Jvm.MethodName)) ∈ lw_all := lw_g (lw_at lw_m7 226 rfl) rfl
theorem q1797 : (Jvm.Cond.code ({ cls := "NandHouse$Store", name := "place", desc := "()I" } : Jvm.MethodName) prog_9_method_4_code (1 : Nat) (Option.some Jvm.ClassFile.FieldType.int)) ∈ lw_all := lw_g (lw_at lw_m7 227 rfl) rfl
theorem q1803 : (Jvm.Cond.instanceMethod ({ cls := "NandHouse$Store", name := "isSound", desc := "([I)Z" } : Jvm.MethodName)) ∈ lw_all := lw_g (lw_at lw_m7 233 rfl) rfl
theorem q1804 : (Jvm.Cond.selects "NandHouse$Store" ({ cls := "NandHouse$Store", name := "isSound", desc := "([I)Z" } : Jvm.MethodName) ({ cls := "NandHouse$Store", name := "isSound", desc := "([I)Z" } : Jvm.MethodName)) ∈ lw_all := lw_g (lw_at lw_m7 234 rfl) rfl
theorem q1805 : (Jvm.Cond.code ({ cls := "NandHouse$Store", name := "isSound", desc := "([I)Z" } : Jvm.MethodName) prog_9_method_49_code (4 : Nat) (Option.some Jvm.ClassFile.FieldType.boolean)) ∈ lw_all := lw_g (lw_at lw_m7 235 rfl) rfl
theorem q1806 : (Jvm.Cond.methodLink "NandHouse$Store" (564 : Nat) ({ cls := "NandHouse$Blocks", name := "isSound", desc := "()Z" } : Jvm.MethodName)) ∈ lw_all := lw_g (lw_at lw_m7 236 rfl) rfl
theorem q1810 : (Jvm.Cond.methodLink "NandHouse$Store" (567 : Nat) ({ cls := "NandHouse$Index", name := "isSound", desc := "(LNandHouse$Knot;Z)Z" } : Jvm.MethodName)) ∈ lw_all := lw_g (lw_at lw_m8 0 rfl) rfl
theorem q1816 : (Jvm.Cond.methodLink "NandHouse$Store" (570 : Nat) ({ cls := "java/util/Arrays", name := "fill", desc := "([II)V" } : Jvm.MethodName)) ∈ lw_all := lw_g (lw_at lw_m8 6 rfl) rfl
theorem q1817 : (Jvm.Cond.methodLink "NandHouse$Store" (582 : Nat) ({ cls := "NandHouse$Store", name := "addKnots", desc := "(LNandHouse$Knot;[I)V" } : Jvm.MethodName)) ∈ lw_all := lw_g (lw_at lw_m8 7 rfl) rfl
theorem q1818 : (Jvm.Cond.privateMethod ({ cls := "NandHouse$Store", name := "addKnots", desc := "(LNandHouse$Knot;[I)V" } : Jvm.MethodName)) ∈ lw_tbl := lw_at lw_m8 8 rfl
theorem q1819 : (Jvm.Cond.instanceMethod ({ cls := "NandHouse$Store", name := "addKnots", desc := "(LNandHouse$Knot;[I)V" } : Jvm.MethodName)) ∈ lw_all := lw_g (lw_at lw_m8 9 rfl) rfl
theorem q1820 : (Jvm.Cond.code ({ cls := "NandHouse$Store", name := "addKnots", desc := "(LNandHouse$Knot;[I)V" } : Jvm.MethodName) prog_9_method_50_code (4 : Nat) (Option.none : Option Jvm.ClassFile.FieldType)) ∈ lw_all := lw_g (lw_at lw_m8 10 rfl) rfl
theorem q1821 : (Jvm.Cond.methodLink "NandHouse$Store" (587 : Nat) ({ cls := "NandHouse$Index", name := "next", desc := "()Z" } : Jvm.MethodName)) ∈ lw_all := lw_g (lw_at lw_m8 11 rfl) rfl
theorem q1837 : (Jvm.Cond.instanceMethod ({ cls := "NandHouse$Store", name := "isLike", desc := "(LNandHouse$Store;)Z" } : Jvm.MethodName)) ∈ lw_all := lw_g (lw_at lw_m8 27 rfl) rfl
theorem q1838 : (Jvm.Cond.selects "NandHouse$Store" ({ cls := "NandHouse$Store", name := "isLike", desc := "(LNandHouse$Store;)Z" } : Jvm.MethodName) ({ cls := "NandHouse$Store", name := "isLike", desc := "(LNandHouse$Store;)Z" } : Jvm.MethodName)) ∈ lw_all := lw_g (lw_at lw_m8 28 rfl) rfl
theorem q1839 : (Jvm.Cond.code ({ cls := "NandHouse$Store", name := "isLike", desc := "(LNandHouse$Store;)Z" } : Jvm.MethodName) prog_9_method_51_code (5 : Nat) (Option.some Jvm.ClassFile.FieldType.boolean)) ∈ lw_all := lw_g (lw_at lw_m8 29 rfl) rfl
theorem in_X5 : ∀ w ∈ wsX50, w ∈ lw_all := lw_in wsX50 [569, 571, 573, 575, 577, 579, 581, 583, 585, 587, 589, 591, 593, 595, 597, 599, 601, 603, 605, 607, 609, 611, 613, 615, 617, 619, 621, 623, 625, 627, 629, 631, 633, 635, 637, 639, 641] (by decide +kernel) (by decide +kernel)
