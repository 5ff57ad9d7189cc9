/-! NandHouseModel -/
set_option maxRecDepth 100000
def RX11 : String := "NandHouseModel"
def TX11 : u_T := fun k => match k with
  | 0 => ("NandHouseModel", "stretch", "I", true)
  | 1 => ("NandHouseModel", "capacity", "I", true)
  | 2 => ("NandHouseModel", "isOn", "Z", false)
  | 3 => ("NandHouseModel", "place", "I", false)
  | 4 => ("NandHouseModel", "granted", "I", false)
  | 5 => ("NandHouseModel", "flips", "I", false)
  | 6 => ("NandHouseModel", "lost", "I", false)
  | 7 => ("NandHouseModel", "handles", "[I", true)
  | 8 => ("NandHouseModel", "next", "[I", true)
  | 9 => ("NandHouseModel", "nodes", "[I", true)
  | 10 => ("NandHouseModel", "numbers", "[I", true)
  | 11 => ("NandHouseModel", "kinds", "[I", true)
  | 12 => ("NandHouseModel", "sizes", "[I", true)
  | 13 => ("NandHouseModel", "entries", "[I", true)
  | 14 => ("NandHouseModel", "holders", "[I", true)
  | 15 => ("NandHouseModel", "names", "[J", true)
  | 16 => ("NandHouseModel", "targets", "[I", true)
  | 17 => ("NandHouseModel", "attributes", "[I", true)
  | 18 => ("NandHouseModel", "bearers", "[I", true)
  | 19 => ("NandHouseModel", "keys", "[J", true)
  | 20 => ("NandHouseModel", "values", "[J", true)
  | 21 => ("NandHouseModel", "pieces", "[I", true)
  | 22 => ("NandHouseModel", "owners", "[I", true)
  | 23 => ("NandHouseModel", "which", "[I", true)
  | 24 => ("NandHouseModel", "lengths", "[I", true)
  | 25 => ("NandHouseModel", "bytes", "[B", true)
  | 26 => ("NandHouseModel", "waits", "I", false)
  | 27 => ("NandHouseModel", "ends", "[I", true)
  | 28 => ("NandHouseModel", "ops", "[I", true)
  | 29 => ("NandHouseModel", "one", "[I", true)
  | 30 => ("NandHouseModel", "two", "[I", true)
  | 31 => ("NandHouseModel", "three", "[I", true)
  | 32 => ("NandHouseModel", "four", "[I", true)
  | 33 => ("NandHouseModel", "gone", "[Z", true)
  | 34 => ("NandHouseModel", "nameA", "[J", true)
  | 35 => ("NandHouseModel", "nameB", "[J", true)
  | 36 => ("NandHouseModel", "rows", "[B", true)
  | 37 => ("NandHouseModel", "fresh", "[B", true)
  | 38 => ("NandHouseModel", "copied", "[B", true)
  | 39 => ("NandHouseModel", "taped", "I", false)
  | 40 => ("NandHouseModel", "tape", "[B", true)
  | 41 => ("NandHouseModel", "level", "I", false)
  | 42 => ("NandHouseModel", "sources", "[I", true)
  | 43 => ("NandHouseModel", "places", "[I", true)
  | 44 => ("NandHouseModel", "at", "I", false)
  | 45 => ("NandHouseModel", "signs", "I", false)
  | 46 => ("NandHouseModel", "raws", "I", true)
  | 47 => ("NandHouseModel", "rawPages", "[I", true)
  | _ => ("NandHouseModel", "rawBytes", "[B", true)
def tyX11 : Nat → FieldType := fun k => match k with
  | 0 => .int
  | 1 => .int
  | 2 => .boolean
  | 3 => .int
  | 4 => .int
  | 5 => .int
  | 6 => .int
  | 7 => .array .int
  | 8 => .array .int
  | 9 => .array .int
  | 10 => .array .int
  | 11 => .array .int
  | 12 => .array .int
  | 13 => .array .int
  | 14 => .array .int
  | 15 => .array .long
  | 16 => .array .int
  | 17 => .array .int
  | 18 => .array .int
  | 19 => .array .long
  | 20 => .array .long
  | 21 => .array .int
  | 22 => .array .int
  | 23 => .array .int
  | 24 => .array .int
  | 25 => .array .byte
  | 26 => .int
  | 27 => .array .int
  | 28 => .array .int
  | 29 => .array .int
  | 30 => .array .int
  | 31 => .array .int
  | 32 => .array .int
  | 33 => .array .boolean
  | 34 => .array .long
  | 35 => .array .long
  | 36 => .array .byte
  | 37 => .array .byte
  | 38 => .array .byte
  | 39 => .int
  | 40 => .array .byte
  | 41 => .int
  | 42 => .array .int
  | 43 => .array .int
  | 44 => .int
  | 45 => .int
  | 46 => .int
  | 47 => .array .int
  | _ => .array .byte
abbrev wsX110 : List Cond := u_ws RX11 TX11 49
set_option maxRecDepth 100000 in
theorem nmX11 : ∀ a, a < 49 → ∀ b, b < 49 → a ≠ b → (TX11 a).2.1 ≠ (TX11 b).2.1 := by decide +kernel
set_option maxRecDepth 100000 in
theorem tyX11_ok : ∀ k, k < 49 → parseFieldDescriptor (TX11 k).2.2.1 = some (tyX11 k) := by decide +kernel
abbrev cX11_init : ByteArray := prog_12_method_1_code
def yX11_init : MethodName := ⟨RX11, "<init>", "(III)V"⟩
def dkwX11_init_18 : List UInt8 := [21, 6, 4, 79, 42, 21, 6, 4, 182, 0, 139, 132, 6, 1, 167, 255, 232, 177]
abbrev dktX11_init_18 : List UInt8 := dkwX11_init_18 ++ []
def dkwX11_init_17 : List UInt8 := [181, 0, 133, 42, 42, 180, 0, 126, 181, 0, 136, 3, 54, 6, 21, 6, 5, 162, 0, 24, 42, 180, 0, 17]
abbrev dktX11_init_17 : List UInt8 := dkwX11_init_17 ++ dktX11_init_18
def dkwX11_init_16 : List UInt8 := [181, 0, 130, 42, 21, 4, 16, 18, 100, 42, 180, 0, 130, 100, 42, 180, 0, 126, 17, 1, 0, 100, 104]
abbrev dktX11_init_16 : List UInt8 := dkwX11_init_16 ++ dktX11_init_17
def dkwX11_init_15 : List UInt8 := [17, 0, 128, 104, 181, 0, 126, 42, 29, 155, 0, 8, 29, 7, 164, 0, 7, 3, 167, 0, 4, 29]
abbrev dktX11_init_15 : List UInt8 := dkwX11_init_15 ++ dktX11_init_16
def dkwX11_init_14 : List UInt8 := [16, 8, 161, 0, 9, 28, 16, 32, 164, 0, 8, 16, 16, 167, 0, 4, 28, 54, 5, 42, 21, 5, 5, 100]
abbrev dktX11_init_14 : List UInt8 := dkwX11_init_14 ++ dktX11_init_15
def dkwX11_init_13 : List UInt8 := [181, 0, 123, 27, 16, 24, 161, 0, 9, 27, 16, 64, 164, 0, 8, 16, 32, 167, 0, 4, 27, 54, 4, 28]
abbrev dktX11_init_13 : List UInt8 := dkwX11_init_13 ++ dktX11_init_14
def dkwX11_init_12 : List UInt8 := [181, 0, 114, 42, 16, 10, 188, 10, 181, 0, 117, 42, 7, 188, 10, 181, 0, 120, 42, 17, 60, 0, 188, 8]
abbrev dktX11_init_12 : List UInt8 := dkwX11_init_12 ++ dktX11_init_13
def dkwX11_init_11 : List UInt8 := [17, 8, 0, 188, 8, 181, 0, 108, 42, 17, 0, 200, 188, 8, 181, 0, 111, 42, 16, 10, 188, 10]
abbrev dktX11_init_11 : List UInt8 := dkwX11_init_11 ++ dktX11_init_12
def dkwX11_init_10 : List UInt8 := [188, 11, 181, 0, 99, 42, 17, 2, 0, 188, 8, 181, 0, 102, 42, 16, 64, 188, 8, 181, 0, 105, 42]
abbrev dktX11_init_10 : List UInt8 := dkwX11_init_10 ++ dktX11_init_11
def dkwX11_init_9 : List UInt8 := [188, 10, 181, 0, 89, 42, 16, 8, 188, 4, 181, 0, 92, 42, 16, 8, 188, 11, 181, 0, 96, 42, 16, 8]
abbrev dktX11_init_9 : List UInt8 := dkwX11_init_9 ++ dktX11_init_10
def dkwX11_init_8 : List UInt8 := [188, 10, 181, 0, 80, 42, 16, 8, 188, 10, 181, 0, 83, 42, 16, 8, 188, 10, 181, 0, 86, 42, 16, 8]
abbrev dktX11_init_8 : List UInt8 := dkwX11_init_8 ++ dktX11_init_9
def dkwX11_init_7 : List UInt8 := [188, 8, 181, 0, 70, 42, 16, 8, 188, 10, 181, 0, 74, 42, 16, 8, 188, 10, 181, 0, 77, 42, 16, 8]
abbrev dktX11_init_7 : List UInt8 := dkwX11_init_7 ++ dktX11_init_8
def dkwX11_init_6 : List UInt8 := [181, 0, 60, 42, 17, 5, 160, 188, 10, 181, 0, 63, 42, 17, 5, 160, 188, 10, 181, 0, 66, 42, 18, 69]
abbrev dktX11_init_6 : List UInt8 := dkwX11_init_6 ++ dktX11_init_7
def dkwX11_init_5 : List UInt8 := [42, 17, 5, 120, 188, 11, 181, 0, 54, 42, 5, 188, 10, 181, 0, 57, 42, 17, 5, 160, 188, 10]
abbrev dktX11_init_5 : List UInt8 := dkwX11_init_5 ++ dktX11_init_6
def dkwX11_init_4 : List UInt8 := [5, 188, 10, 181, 0, 45, 42, 17, 5, 120, 188, 10, 181, 0, 48, 42, 17, 5, 120, 188, 11, 181, 0, 51]
abbrev dktX11_init_4 : List UInt8 := dkwX11_init_4 ++ dktX11_init_5
def dkwX11_init_3 : List UInt8 := [188, 10, 181, 0, 35, 42, 17, 5, 120, 188, 11, 181, 0, 38, 42, 17, 5, 120, 188, 10, 181, 0, 42, 42]
abbrev dktX11_init_3 : List UInt8 := dkwX11_init_3 ++ dktX11_init_4
def dkwX11_init_2 : List UInt8 := [181, 0, 26, 42, 17, 5, 120, 188, 10, 181, 0, 29, 42, 5, 188, 10, 181, 0, 32, 42, 17, 5, 120]
abbrev dktX11_init_2 : List UInt8 := dkwX11_init_2 ++ dktX11_init_3
def dkwX11_init_1 : List UInt8 := [42, 5, 188, 10, 181, 0, 20, 42, 17, 5, 120, 188, 10, 181, 0, 23, 42, 17, 5, 120, 188, 10]
abbrev dktX11_init_1 : List UInt8 := dkwX11_init_1 ++ dktX11_init_2
def dkwX11_init_0 : List UInt8 := [42, 183, 0, 1, 42, 4, 181, 0, 7, 42, 16, 8, 188, 10, 181, 0, 13, 42, 5, 188, 10, 181, 0, 17]
abbrev dktX11_init_0 : List UInt8 := dkwX11_init_0 ++ dktX11_init_1
theorem dksX11_init_0 : cX11_init.data.toList.drop 0 = dktX11_init_0 := by decide +kernel
theorem dksX11_init_1 : cX11_init.data.toList.drop 24 = dktX11_init_1 := dk_seg dksX11_init_0 24 rfl rfl
theorem dksX11_init_2 : cX11_init.data.toList.drop 46 = dktX11_init_2 := dk_seg dksX11_init_1 22 rfl rfl
theorem dksX11_init_3 : cX11_init.data.toList.drop 69 = dktX11_init_3 := dk_seg dksX11_init_2 23 rfl rfl
theorem dksX11_init_4 : cX11_init.data.toList.drop 93 = dktX11_init_4 := dk_seg dksX11_init_3 24 rfl rfl
theorem dksX11_init_5 : cX11_init.data.toList.drop 117 = dktX11_init_5 := dk_seg dksX11_init_4 24 rfl rfl
theorem dksX11_init_6 : cX11_init.data.toList.drop 139 = dktX11_init_6 := dk_seg dksX11_init_5 22 rfl rfl
theorem dksX11_init_7 : cX11_init.data.toList.drop 163 = dktX11_init_7 := dk_seg dksX11_init_6 24 rfl rfl
theorem dksX11_init_8 : cX11_init.data.toList.drop 187 = dktX11_init_8 := dk_seg dksX11_init_7 24 rfl rfl
theorem dksX11_init_9 : cX11_init.data.toList.drop 211 = dktX11_init_9 := dk_seg dksX11_init_8 24 rfl rfl
theorem dksX11_init_10 : cX11_init.data.toList.drop 235 = dktX11_init_10 := dk_seg dksX11_init_9 24 rfl rfl
theorem dksX11_init_11 : cX11_init.data.toList.drop 258 = dktX11_init_11 := dk_seg dksX11_init_10 23 rfl rfl
theorem dksX11_init_12 : cX11_init.data.toList.drop 280 = dktX11_init_12 := dk_seg dksX11_init_11 22 rfl rfl
theorem dksX11_init_13 : cX11_init.data.toList.drop 304 = dktX11_init_13 := dk_seg dksX11_init_12 24 rfl rfl
theorem dksX11_init_14 : cX11_init.data.toList.drop 328 = dktX11_init_14 := dk_seg dksX11_init_13 24 rfl rfl
theorem dksX11_init_15 : cX11_init.data.toList.drop 352 = dktX11_init_15 := dk_seg dksX11_init_14 24 rfl rfl
theorem dksX11_init_16 : cX11_init.data.toList.drop 374 = dktX11_init_16 := dk_seg dksX11_init_15 22 rfl rfl
theorem dksX11_init_17 : cX11_init.data.toList.drop 397 = dktX11_init_17 := dk_seg dksX11_init_16 23 rfl rfl
theorem dksX11_init_18 : cX11_init.data.toList.drop 421 = dktX11_init_18 := dk_seg dksX11_init_17 24 rfl rfl
theorem dX11_init_0 : decode cX11_init 0 = .ok (.aload_n 0, 1) := dk_42 (dk_at dksX11_init_0 0 rfl rfl)
theorem dX11_init_1 : decode cX11_init 1 = .ok (.invokespecial 1, 3) := dk_183 0 1 (dk_at dksX11_init_0 1 rfl rfl)
theorem dX11_init_4 : decode cX11_init 4 = .ok (.aload_n 0, 1) := dk_42 (dk_at dksX11_init_0 4 rfl rfl)
theorem dX11_init_5 : decode cX11_init 5 = .ok (.iconst 1, 1) := dk_4 (dk_at dksX11_init_0 5 rfl rfl)
theorem dX11_init_6 : decode cX11_init 6 = .ok (.putfield 7, 3) := dk_181 0 7 (dk_at dksX11_init_0 6 rfl rfl)
theorem dX11_init_9 : decode cX11_init 9 = .ok (.aload_n 0, 1) := dk_42 (dk_at dksX11_init_0 9 rfl rfl)
theorem dX11_init_10 : decode cX11_init 10 = .ok (.bipush 8, 2) := dk_16 8 (dk_at dksX11_init_0 10 rfl rfl)
theorem dX11_init_12 : decode cX11_init 12 = .ok (.newarray .int, 2) := dk_188_10 (dk_at dksX11_init_0 12 rfl rfl)
theorem dX11_init_14 : decode cX11_init 14 = .ok (.putfield 13, 3) := dk_181 0 13 (dk_at dksX11_init_0 14 rfl rfl)
theorem dX11_init_17 : decode cX11_init 17 = .ok (.aload_n 0, 1) := dk_42 (dk_at dksX11_init_0 17 rfl rfl)
theorem dX11_init_18 : decode cX11_init 18 = .ok (.iconst 2, 1) := dk_5 (dk_at dksX11_init_0 18 rfl rfl)
theorem dX11_init_19 : decode cX11_init 19 = .ok (.newarray .int, 2) := dk_188_10 (dk_at dksX11_init_0 19 rfl rfl)
theorem dX11_init_21 : decode cX11_init 21 = .ok (.putfield 17, 3) := dk_181 0 17 (dk_at dksX11_init_0 21 rfl rfl)
theorem dX11_init_24 : decode cX11_init 24 = .ok (.aload_n 0, 1) := dk_42 (dk_at dksX11_init_1 0 rfl rfl)
theorem dX11_init_25 : decode cX11_init 25 = .ok (.iconst 2, 1) := dk_5 (dk_at dksX11_init_1 1 rfl rfl)
theorem dX11_init_26 : decode cX11_init 26 = .ok (.newarray .int, 2) := dk_188_10 (dk_at dksX11_init_1 2 rfl rfl)
theorem dX11_init_28 : decode cX11_init 28 = .ok (.putfield 20, 3) := dk_181 0 20 (dk_at dksX11_init_1 4 rfl rfl)
theorem dX11_init_31 : decode cX11_init 31 = .ok (.aload_n 0, 1) := dk_42 (dk_at dksX11_init_1 7 rfl rfl)
theorem dX11_init_32 : decode cX11_init 32 = .ok (.sipush 1400, 3) := dk_17 5 120 (dk_at dksX11_init_1 8 rfl rfl)
theorem dX11_init_35 : decode cX11_init 35 = .ok (.newarray .int, 2) := dk_188_10 (dk_at dksX11_init_1 11 rfl rfl)
theorem dX11_init_37 : decode cX11_init 37 = .ok (.putfield 23, 3) := dk_181 0 23 (dk_at dksX11_init_1 13 rfl rfl)
theorem dX11_init_40 : decode cX11_init 40 = .ok (.aload_n 0, 1) := dk_42 (dk_at dksX11_init_1 16 rfl rfl)
theorem dX11_init_41 : decode cX11_init 41 = .ok (.sipush 1400, 3) := dk_17 5 120 (dk_at dksX11_init_1 17 rfl rfl)
theorem dX11_init_44 : decode cX11_init 44 = .ok (.newarray .int, 2) := dk_188_10 (dk_at dksX11_init_1 20 rfl rfl)
theorem dX11_init_46 : decode cX11_init 46 = .ok (.putfield 26, 3) := dk_181 0 26 (dk_at dksX11_init_2 0 rfl rfl)
theorem dX11_init_49 : decode cX11_init 49 = .ok (.aload_n 0, 1) := dk_42 (dk_at dksX11_init_2 3 rfl rfl)
theorem dX11_init_50 : decode cX11_init 50 = .ok (.sipush 1400, 3) := dk_17 5 120 (dk_at dksX11_init_2 4 rfl rfl)
theorem dX11_init_53 : decode cX11_init 53 = .ok (.newarray .int, 2) := dk_188_10 (dk_at dksX11_init_2 7 rfl rfl)
theorem dX11_init_55 : decode cX11_init 55 = .ok (.putfield 29, 3) := dk_181 0 29 (dk_at dksX11_init_2 9 rfl rfl)
theorem dX11_init_58 : decode cX11_init 58 = .ok (.aload_n 0, 1) := dk_42 (dk_at dksX11_init_2 12 rfl rfl)
theorem dX11_init_59 : decode cX11_init 59 = .ok (.iconst 2, 1) := dk_5 (dk_at dksX11_init_2 13 rfl rfl)
theorem dX11_init_60 : decode cX11_init 60 = .ok (.newarray .int, 2) := dk_188_10 (dk_at dksX11_init_2 14 rfl rfl)
theorem dX11_init_62 : decode cX11_init 62 = .ok (.putfield 32, 3) := dk_181 0 32 (dk_at dksX11_init_2 16 rfl rfl)
theorem dX11_init_65 : decode cX11_init 65 = .ok (.aload_n 0, 1) := dk_42 (dk_at dksX11_init_2 19 rfl rfl)
theorem dX11_init_66 : decode cX11_init 66 = .ok (.sipush 1400, 3) := dk_17 5 120 (dk_at dksX11_init_2 20 rfl rfl)
theorem dX11_init_69 : decode cX11_init 69 = .ok (.newarray .int, 2) := dk_188_10 (dk_at dksX11_init_3 0 rfl rfl)
theorem dX11_init_71 : decode cX11_init 71 = .ok (.putfield 35, 3) := dk_181 0 35 (dk_at dksX11_init_3 2 rfl rfl)
theorem dX11_init_74 : decode cX11_init 74 = .ok (.aload_n 0, 1) := dk_42 (dk_at dksX11_init_3 5 rfl rfl)
theorem dX11_init_75 : decode cX11_init 75 = .ok (.sipush 1400, 3) := dk_17 5 120 (dk_at dksX11_init_3 6 rfl rfl)
theorem dX11_init_78 : decode cX11_init 78 = .ok (.newarray .long, 2) := dk_188_11 (dk_at dksX11_init_3 9 rfl rfl)
theorem dX11_init_80 : decode cX11_init 80 = .ok (.putfield 38, 3) := dk_181 0 38 (dk_at dksX11_init_3 11 rfl rfl)
theorem dX11_init_83 : decode cX11_init 83 = .ok (.aload_n 0, 1) := dk_42 (dk_at dksX11_init_3 14 rfl rfl)
theorem dX11_init_84 : decode cX11_init 84 = .ok (.sipush 1400, 3) := dk_17 5 120 (dk_at dksX11_init_3 15 rfl rfl)
theorem dX11_init_87 : decode cX11_init 87 = .ok (.newarray .int, 2) := dk_188_10 (dk_at dksX11_init_3 18 rfl rfl)
theorem dX11_init_89 : decode cX11_init 89 = .ok (.putfield 42, 3) := dk_181 0 42 (dk_at dksX11_init_3 20 rfl rfl)
theorem dX11_init_92 : decode cX11_init 92 = .ok (.aload_n 0, 1) := dk_42 (dk_at dksX11_init_3 23 rfl rfl)
theorem dX11_init_93 : decode cX11_init 93 = .ok (.iconst 2, 1) := dk_5 (dk_at dksX11_init_4 0 rfl rfl)
theorem dX11_init_94 : decode cX11_init 94 = .ok (.newarray .int, 2) := dk_188_10 (dk_at dksX11_init_4 1 rfl rfl)
theorem dX11_init_96 : decode cX11_init 96 = .ok (.putfield 45, 3) := dk_181 0 45 (dk_at dksX11_init_4 3 rfl rfl)
theorem dX11_init_99 : decode cX11_init 99 = .ok (.aload_n 0, 1) := dk_42 (dk_at dksX11_init_4 6 rfl rfl)
theorem dX11_init_100 : decode cX11_init 100 = .ok (.sipush 1400, 3) := dk_17 5 120 (dk_at dksX11_init_4 7 rfl rfl)
theorem dX11_init_103 : decode cX11_init 103 = .ok (.newarray .int, 2) := dk_188_10 (dk_at dksX11_init_4 10 rfl rfl)
theorem dX11_init_105 : decode cX11_init 105 = .ok (.putfield 48, 3) := dk_181 0 48 (dk_at dksX11_init_4 12 rfl rfl)
theorem dX11_init_108 : decode cX11_init 108 = .ok (.aload_n 0, 1) := dk_42 (dk_at dksX11_init_4 15 rfl rfl)
theorem dX11_init_109 : decode cX11_init 109 = .ok (.sipush 1400, 3) := dk_17 5 120 (dk_at dksX11_init_4 16 rfl rfl)
theorem dX11_init_112 : decode cX11_init 112 = .ok (.newarray .long, 2) := dk_188_11 (dk_at dksX11_init_4 19 rfl rfl)
theorem dX11_init_114 : decode cX11_init 114 = .ok (.putfield 51, 3) := dk_181 0 51 (dk_at dksX11_init_4 21 rfl rfl)
theorem dX11_init_117 : decode cX11_init 117 = .ok (.aload_n 0, 1) := dk_42 (dk_at dksX11_init_5 0 rfl rfl)
theorem dX11_init_118 : decode cX11_init 118 = .ok (.sipush 1400, 3) := dk_17 5 120 (dk_at dksX11_init_5 1 rfl rfl)
theorem dX11_init_121 : decode cX11_init 121 = .ok (.newarray .long, 2) := dk_188_11 (dk_at dksX11_init_5 4 rfl rfl)
theorem dX11_init_123 : decode cX11_init 123 = .ok (.putfield 54, 3) := dk_181 0 54 (dk_at dksX11_init_5 6 rfl rfl)
theorem dX11_init_126 : decode cX11_init 126 = .ok (.aload_n 0, 1) := dk_42 (dk_at dksX11_init_5 9 rfl rfl)
theorem dX11_init_127 : decode cX11_init 127 = .ok (.iconst 2, 1) := dk_5 (dk_at dksX11_init_5 10 rfl rfl)
theorem dX11_init_128 : decode cX11_init 128 = .ok (.newarray .int, 2) := dk_188_10 (dk_at dksX11_init_5 11 rfl rfl)
theorem dX11_init_130 : decode cX11_init 130 = .ok (.putfield 57, 3) := dk_181 0 57 (dk_at dksX11_init_5 13 rfl rfl)
theorem dX11_init_133 : decode cX11_init 133 = .ok (.aload_n 0, 1) := dk_42 (dk_at dksX11_init_5 16 rfl rfl)
theorem dX11_init_134 : decode cX11_init 134 = .ok (.sipush 1440, 3) := dk_17 5 160 (dk_at dksX11_init_5 17 rfl rfl)
theorem dX11_init_137 : decode cX11_init 137 = .ok (.newarray .int, 2) := dk_188_10 (dk_at dksX11_init_5 20 rfl rfl)
theorem dX11_init_139 : decode cX11_init 139 = .ok (.putfield 60, 3) := dk_181 0 60 (dk_at dksX11_init_6 0 rfl rfl)
theorem dX11_init_142 : decode cX11_init 142 = .ok (.aload_n 0, 1) := dk_42 (dk_at dksX11_init_6 3 rfl rfl)
theorem dX11_init_143 : decode cX11_init 143 = .ok (.sipush 1440, 3) := dk_17 5 160 (dk_at dksX11_init_6 4 rfl rfl)
theorem dX11_init_146 : decode cX11_init 146 = .ok (.newarray .int, 2) := dk_188_10 (dk_at dksX11_init_6 7 rfl rfl)
theorem dX11_init_148 : decode cX11_init 148 = .ok (.putfield 63, 3) := dk_181 0 63 (dk_at dksX11_init_6 9 rfl rfl)
theorem dX11_init_151 : decode cX11_init 151 = .ok (.aload_n 0, 1) := dk_42 (dk_at dksX11_init_6 12 rfl rfl)
theorem dX11_init_152 : decode cX11_init 152 = .ok (.sipush 1440, 3) := dk_17 5 160 (dk_at dksX11_init_6 13 rfl rfl)
theorem dX11_init_155 : decode cX11_init 155 = .ok (.newarray .int, 2) := dk_188_10 (dk_at dksX11_init_6 16 rfl rfl)
theorem dX11_init_157 : decode cX11_init 157 = .ok (.putfield 66, 3) := dk_181 0 66 (dk_at dksX11_init_6 18 rfl rfl)
theorem dX11_init_160 : decode cX11_init 160 = .ok (.aload_n 0, 1) := dk_42 (dk_at dksX11_init_6 21 rfl rfl)
theorem dX11_init_161 : decode cX11_init 161 = .ok (.ldc 69, 2) := dk_18 69 (dk_at dksX11_init_6 22 rfl rfl)
theorem dX11_init_163 : decode cX11_init 163 = .ok (.newarray .byte, 2) := dk_188_8 (dk_at dksX11_init_7 0 rfl rfl)
theorem dX11_init_165 : decode cX11_init 165 = .ok (.putfield 70, 3) := dk_181 0 70 (dk_at dksX11_init_7 2 rfl rfl)
theorem dX11_init_168 : decode cX11_init 168 = .ok (.aload_n 0, 1) := dk_42 (dk_at dksX11_init_7 5 rfl rfl)
theorem dX11_init_169 : decode cX11_init 169 = .ok (.bipush 8, 2) := dk_16 8 (dk_at dksX11_init_7 6 rfl rfl)
theorem dX11_init_171 : decode cX11_init 171 = .ok (.newarray .int, 2) := dk_188_10 (dk_at dksX11_init_7 8 rfl rfl)
theorem dX11_init_173 : decode cX11_init 173 = .ok (.putfield 74, 3) := dk_181 0 74 (dk_at dksX11_init_7 10 rfl rfl)
theorem dX11_init_176 : decode cX11_init 176 = .ok (.aload_n 0, 1) := dk_42 (dk_at dksX11_init_7 13 rfl rfl)
theorem dX11_init_177 : decode cX11_init 177 = .ok (.bipush 8, 2) := dk_16 8 (dk_at dksX11_init_7 14 rfl rfl)
theorem dX11_init_179 : decode cX11_init 179 = .ok (.newarray .int, 2) := dk_188_10 (dk_at dksX11_init_7 16 rfl rfl)
theorem dX11_init_181 : decode cX11_init 181 = .ok (.putfield 77, 3) := dk_181 0 77 (dk_at dksX11_init_7 18 rfl rfl)
theorem dX11_init_184 : decode cX11_init 184 = .ok (.aload_n 0, 1) := dk_42 (dk_at dksX11_init_7 21 rfl rfl)
theorem dX11_init_185 : decode cX11_init 185 = .ok (.bipush 8, 2) := dk_16 8 (dk_at dksX11_init_7 22 rfl rfl)
theorem dX11_init_187 : decode cX11_init 187 = .ok (.newarray .int, 2) := dk_188_10 (dk_at dksX11_init_8 0 rfl rfl)
theorem dX11_init_189 : decode cX11_init 189 = .ok (.putfield 80, 3) := dk_181 0 80 (dk_at dksX11_init_8 2 rfl rfl)
theorem dX11_init_192 : decode cX11_init 192 = .ok (.aload_n 0, 1) := dk_42 (dk_at dksX11_init_8 5 rfl rfl)
theorem dX11_init_193 : decode cX11_init 193 = .ok (.bipush 8, 2) := dk_16 8 (dk_at dksX11_init_8 6 rfl rfl)
theorem dX11_init_195 : decode cX11_init 195 = .ok (.newarray .int, 2) := dk_188_10 (dk_at dksX11_init_8 8 rfl rfl)
theorem dX11_init_197 : decode cX11_init 197 = .ok (.putfield 83, 3) := dk_181 0 83 (dk_at dksX11_init_8 10 rfl rfl)
theorem dX11_init_200 : decode cX11_init 200 = .ok (.aload_n 0, 1) := dk_42 (dk_at dksX11_init_8 13 rfl rfl)
theorem dX11_init_201 : decode cX11_init 201 = .ok (.bipush 8, 2) := dk_16 8 (dk_at dksX11_init_8 14 rfl rfl)
theorem dX11_init_203 : decode cX11_init 203 = .ok (.newarray .int, 2) := dk_188_10 (dk_at dksX11_init_8 16 rfl rfl)
theorem dX11_init_205 : decode cX11_init 205 = .ok (.putfield 86, 3) := dk_181 0 86 (dk_at dksX11_init_8 18 rfl rfl)
theorem dX11_init_208 : decode cX11_init 208 = .ok (.aload_n 0, 1) := dk_42 (dk_at dksX11_init_8 21 rfl rfl)
theorem dX11_init_209 : decode cX11_init 209 = .ok (.bipush 8, 2) := dk_16 8 (dk_at dksX11_init_8 22 rfl rfl)
theorem dX11_init_211 : decode cX11_init 211 = .ok (.newarray .int, 2) := dk_188_10 (dk_at dksX11_init_9 0 rfl rfl)
theorem dX11_init_213 : decode cX11_init 213 = .ok (.putfield 89, 3) := dk_181 0 89 (dk_at dksX11_init_9 2 rfl rfl)
theorem dX11_init_216 : decode cX11_init 216 = .ok (.aload_n 0, 1) := dk_42 (dk_at dksX11_init_9 5 rfl rfl)
theorem dX11_init_217 : decode cX11_init 217 = .ok (.bipush 8, 2) := dk_16 8 (dk_at dksX11_init_9 6 rfl rfl)
theorem dX11_init_219 : decode cX11_init 219 = .ok (.newarray .boolean, 2) := dk_188_4 (dk_at dksX11_init_9 8 rfl rfl)
theorem dX11_init_221 : decode cX11_init 221 = .ok (.putfield 92, 3) := dk_181 0 92 (dk_at dksX11_init_9 10 rfl rfl)
theorem dX11_init_224 : decode cX11_init 224 = .ok (.aload_n 0, 1) := dk_42 (dk_at dksX11_init_9 13 rfl rfl)
theorem dX11_init_225 : decode cX11_init 225 = .ok (.bipush 8, 2) := dk_16 8 (dk_at dksX11_init_9 14 rfl rfl)
theorem dX11_init_227 : decode cX11_init 227 = .ok (.newarray .long, 2) := dk_188_11 (dk_at dksX11_init_9 16 rfl rfl)
theorem dX11_init_229 : decode cX11_init 229 = .ok (.putfield 96, 3) := dk_181 0 96 (dk_at dksX11_init_9 18 rfl rfl)
theorem dX11_init_232 : decode cX11_init 232 = .ok (.aload_n 0, 1) := dk_42 (dk_at dksX11_init_9 21 rfl rfl)
theorem dX11_init_233 : decode cX11_init 233 = .ok (.bipush 8, 2) := dk_16 8 (dk_at dksX11_init_9 22 rfl rfl)
theorem dX11_init_235 : decode cX11_init 235 = .ok (.newarray .long, 2) := dk_188_11 (dk_at dksX11_init_10 0 rfl rfl)
theorem dX11_init_237 : decode cX11_init 237 = .ok (.putfield 99, 3) := dk_181 0 99 (dk_at dksX11_init_10 2 rfl rfl)
theorem dX11_init_240 : decode cX11_init 240 = .ok (.aload_n 0, 1) := dk_42 (dk_at dksX11_init_10 5 rfl rfl)
theorem dX11_init_241 : decode cX11_init 241 = .ok (.sipush 512, 3) := dk_17 2 0 (dk_at dksX11_init_10 6 rfl rfl)
theorem dX11_init_244 : decode cX11_init 244 = .ok (.newarray .byte, 2) := dk_188_8 (dk_at dksX11_init_10 9 rfl rfl)
theorem dX11_init_246 : decode cX11_init 246 = .ok (.putfield 102, 3) := dk_181 0 102 (dk_at dksX11_init_10 11 rfl rfl)
theorem dX11_init_249 : decode cX11_init 249 = .ok (.aload_n 0, 1) := dk_42 (dk_at dksX11_init_10 14 rfl rfl)
theorem dX11_init_250 : decode cX11_init 250 = .ok (.bipush 64, 2) := dk_16 64 (dk_at dksX11_init_10 15 rfl rfl)
theorem dX11_init_252 : decode cX11_init 252 = .ok (.newarray .byte, 2) := dk_188_8 (dk_at dksX11_init_10 17 rfl rfl)
theorem dX11_init_254 : decode cX11_init 254 = .ok (.putfield 105, 3) := dk_181 0 105 (dk_at dksX11_init_10 19 rfl rfl)
theorem dX11_init_257 : decode cX11_init 257 = .ok (.aload_n 0, 1) := dk_42 (dk_at dksX11_init_10 22 rfl rfl)
theorem dX11_init_258 : decode cX11_init 258 = .ok (.sipush 2048, 3) := dk_17 8 0 (dk_at dksX11_init_11 0 rfl rfl)
theorem dX11_init_261 : decode cX11_init 261 = .ok (.newarray .byte, 2) := dk_188_8 (dk_at dksX11_init_11 3 rfl rfl)
theorem dX11_init_263 : decode cX11_init 263 = .ok (.putfield 108, 3) := dk_181 0 108 (dk_at dksX11_init_11 5 rfl rfl)
theorem dX11_init_266 : decode cX11_init 266 = .ok (.aload_n 0, 1) := dk_42 (dk_at dksX11_init_11 8 rfl rfl)
theorem dX11_init_267 : decode cX11_init 267 = .ok (.sipush 200, 3) := dk_17 0 200 (dk_at dksX11_init_11 9 rfl rfl)
theorem dX11_init_270 : decode cX11_init 270 = .ok (.newarray .byte, 2) := dk_188_8 (dk_at dksX11_init_11 12 rfl rfl)
theorem dX11_init_272 : decode cX11_init 272 = .ok (.putfield 111, 3) := dk_181 0 111 (dk_at dksX11_init_11 14 rfl rfl)
theorem dX11_init_275 : decode cX11_init 275 = .ok (.aload_n 0, 1) := dk_42 (dk_at dksX11_init_11 17 rfl rfl)
theorem dX11_init_276 : decode cX11_init 276 = .ok (.bipush 10, 2) := dk_16 10 (dk_at dksX11_init_11 18 rfl rfl)
theorem dX11_init_278 : decode cX11_init 278 = .ok (.newarray .int, 2) := dk_188_10 (dk_at dksX11_init_11 20 rfl rfl)
theorem dX11_init_280 : decode cX11_init 280 = .ok (.putfield 114, 3) := dk_181 0 114 (dk_at dksX11_init_12 0 rfl rfl)
theorem dX11_init_283 : decode cX11_init 283 = .ok (.aload_n 0, 1) := dk_42 (dk_at dksX11_init_12 3 rfl rfl)
theorem dX11_init_284 : decode cX11_init 284 = .ok (.bipush 10, 2) := dk_16 10 (dk_at dksX11_init_12 4 rfl rfl)
theorem dX11_init_286 : decode cX11_init 286 = .ok (.newarray .int, 2) := dk_188_10 (dk_at dksX11_init_12 6 rfl rfl)
theorem dX11_init_288 : decode cX11_init 288 = .ok (.putfield 117, 3) := dk_181 0 117 (dk_at dksX11_init_12 8 rfl rfl)
theorem dX11_init_291 : decode cX11_init 291 = .ok (.aload_n 0, 1) := dk_42 (dk_at dksX11_init_12 11 rfl rfl)
theorem dX11_init_292 : decode cX11_init 292 = .ok (.iconst 4, 1) := dk_7 (dk_at dksX11_init_12 12 rfl rfl)
theorem dX11_init_293 : decode cX11_init 293 = .ok (.newarray .int, 2) := dk_188_10 (dk_at dksX11_init_12 13 rfl rfl)
theorem dX11_init_295 : decode cX11_init 295 = .ok (.putfield 120, 3) := dk_181 0 120 (dk_at dksX11_init_12 15 rfl rfl)
theorem dX11_init_298 : decode cX11_init 298 = .ok (.aload_n 0, 1) := dk_42 (dk_at dksX11_init_12 18 rfl rfl)
theorem dX11_init_299 : decode cX11_init 299 = .ok (.sipush 15360, 3) := dk_17 60 0 (dk_at dksX11_init_12 19 rfl rfl)
theorem dX11_init_302 : decode cX11_init 302 = .ok (.newarray .byte, 2) := dk_188_8 (dk_at dksX11_init_12 22 rfl rfl)
theorem dX11_init_304 : decode cX11_init 304 = .ok (.putfield 123, 3) := dk_181 0 123 (dk_at dksX11_init_13 0 rfl rfl)
theorem dX11_init_307 : decode cX11_init 307 = .ok (.iload_n 1, 1) := dk_27 (dk_at dksX11_init_13 3 rfl rfl)
theorem dX11_init_308 : decode cX11_init 308 = .ok (.bipush 24, 2) := dk_16 24 (dk_at dksX11_init_13 4 rfl rfl)
theorem dX11_init_310 : decode cX11_init 310 = .ok (.if_icmp .lt 9, 3) := dk_161 0 9 (dk_at dksX11_init_13 6 rfl rfl)
theorem dX11_init_313 : decode cX11_init 313 = .ok (.iload_n 1, 1) := dk_27 (dk_at dksX11_init_13 9 rfl rfl)
theorem dX11_init_314 : decode cX11_init 314 = .ok (.bipush 64, 2) := dk_16 64 (dk_at dksX11_init_13 10 rfl rfl)
theorem dX11_init_316 : decode cX11_init 316 = .ok (.if_icmp .le 8, 3) := dk_164 0 8 (dk_at dksX11_init_13 12 rfl rfl)
theorem dX11_init_319 : decode cX11_init 319 = .ok (.bipush 32, 2) := dk_16 32 (dk_at dksX11_init_13 15 rfl rfl)
theorem dX11_init_321 : decode cX11_init 321 = .ok (.goto 4, 3) := dk_167 0 4 (dk_at dksX11_init_13 17 rfl rfl)
theorem dX11_init_324 : decode cX11_init 324 = .ok (.iload_n 1, 1) := dk_27 (dk_at dksX11_init_13 20 rfl rfl)
theorem dX11_init_325 : decode cX11_init 325 = .ok (.istore 4, 2) := dk_54 4 (dk_at dksX11_init_13 21 rfl rfl)
theorem dX11_init_327 : decode cX11_init 327 = .ok (.iload_n 2, 1) := dk_28 (dk_at dksX11_init_13 23 rfl rfl)
theorem dX11_init_328 : decode cX11_init 328 = .ok (.bipush 8, 2) := dk_16 8 (dk_at dksX11_init_14 0 rfl rfl)
theorem dX11_init_330 : decode cX11_init 330 = .ok (.if_icmp .lt 9, 3) := dk_161 0 9 (dk_at dksX11_init_14 2 rfl rfl)
theorem dX11_init_333 : decode cX11_init 333 = .ok (.iload_n 2, 1) := dk_28 (dk_at dksX11_init_14 5 rfl rfl)
theorem dX11_init_334 : decode cX11_init 334 = .ok (.bipush 32, 2) := dk_16 32 (dk_at dksX11_init_14 6 rfl rfl)
theorem dX11_init_336 : decode cX11_init 336 = .ok (.if_icmp .le 8, 3) := dk_164 0 8 (dk_at dksX11_init_14 8 rfl rfl)
theorem dX11_init_339 : decode cX11_init 339 = .ok (.bipush 16, 2) := dk_16 16 (dk_at dksX11_init_14 11 rfl rfl)
theorem dX11_init_341 : decode cX11_init 341 = .ok (.goto 4, 3) := dk_167 0 4 (dk_at dksX11_init_14 13 rfl rfl)
theorem dX11_init_344 : decode cX11_init 344 = .ok (.iload_n 2, 1) := dk_28 (dk_at dksX11_init_14 16 rfl rfl)
theorem dX11_init_345 : decode cX11_init 345 = .ok (.istore 5, 2) := dk_54 5 (dk_at dksX11_init_14 17 rfl rfl)
theorem dX11_init_347 : decode cX11_init 347 = .ok (.aload_n 0, 1) := dk_42 (dk_at dksX11_init_14 19 rfl rfl)
theorem dX11_init_348 : decode cX11_init 348 = .ok (.iload 5, 2) := dk_21 5 (dk_at dksX11_init_14 20 rfl rfl)
theorem dX11_init_350 : decode cX11_init 350 = .ok (.iconst 2, 1) := dk_5 (dk_at dksX11_init_14 22 rfl rfl)
theorem dX11_init_351 : decode cX11_init 351 = .ok (.isub, 1) := dk_100 (dk_at dksX11_init_14 23 rfl rfl)
theorem dX11_init_352 : decode cX11_init 352 = .ok (.sipush 128, 3) := dk_17 0 128 (dk_at dksX11_init_15 0 rfl rfl)
theorem dX11_init_355 : decode cX11_init 355 = .ok (.imul, 1) := dk_104 (dk_at dksX11_init_15 3 rfl rfl)
theorem dX11_init_356 : decode cX11_init 356 = .ok (.putfield 126, 3) := dk_181 0 126 (dk_at dksX11_init_15 4 rfl rfl)
theorem dX11_init_359 : decode cX11_init 359 = .ok (.aload_n 0, 1) := dk_42 (dk_at dksX11_init_15 7 rfl rfl)
theorem dX11_init_360 : decode cX11_init 360 = .ok (.iload_n 3, 1) := dk_29 (dk_at dksX11_init_15 8 rfl rfl)
theorem dX11_init_361 : decode cX11_init 361 = .ok (.ifCond .lt 8, 3) := dk_155 0 8 (dk_at dksX11_init_15 9 rfl rfl)
theorem dX11_init_364 : decode cX11_init 364 = .ok (.iload_n 3, 1) := dk_29 (dk_at dksX11_init_15 12 rfl rfl)
theorem dX11_init_365 : decode cX11_init 365 = .ok (.iconst 4, 1) := dk_7 (dk_at dksX11_init_15 13 rfl rfl)
theorem dX11_init_366 : decode cX11_init 366 = .ok (.if_icmp .le 7, 3) := dk_164 0 7 (dk_at dksX11_init_15 14 rfl rfl)
theorem dX11_init_369 : decode cX11_init 369 = .ok (.iconst 0, 1) := dk_3 (dk_at dksX11_init_15 17 rfl rfl)
theorem dX11_init_370 : decode cX11_init 370 = .ok (.goto 4, 3) := dk_167 0 4 (dk_at dksX11_init_15 18 rfl rfl)
theorem dX11_init_373 : decode cX11_init 373 = .ok (.iload_n 3, 1) := dk_29 (dk_at dksX11_init_15 21 rfl rfl)
theorem dX11_init_374 : decode cX11_init 374 = .ok (.putfield 130, 3) := dk_181 0 130 (dk_at dksX11_init_16 0 rfl rfl)
theorem dX11_init_377 : decode cX11_init 377 = .ok (.aload_n 0, 1) := dk_42 (dk_at dksX11_init_16 3 rfl rfl)
theorem dX11_init_378 : decode cX11_init 378 = .ok (.iload 4, 2) := dk_21 4 (dk_at dksX11_init_16 4 rfl rfl)
theorem dX11_init_380 : decode cX11_init 380 = .ok (.bipush 18, 2) := dk_16 18 (dk_at dksX11_init_16 6 rfl rfl)
theorem dX11_init_382 : decode cX11_init 382 = .ok (.isub, 1) := dk_100 (dk_at dksX11_init_16 8 rfl rfl)
theorem dX11_init_383 : decode cX11_init 383 = .ok (.aload_n 0, 1) := dk_42 (dk_at dksX11_init_16 9 rfl rfl)
theorem dX11_init_384 : decode cX11_init 384 = .ok (.getfield 130, 3) := dk_180 0 130 (dk_at dksX11_init_16 10 rfl rfl)
theorem dX11_init_387 : decode cX11_init 387 = .ok (.isub, 1) := dk_100 (dk_at dksX11_init_16 13 rfl rfl)
theorem dX11_init_388 : decode cX11_init 388 = .ok (.aload_n 0, 1) := dk_42 (dk_at dksX11_init_16 14 rfl rfl)
theorem dX11_init_389 : decode cX11_init 389 = .ok (.getfield 126, 3) := dk_180 0 126 (dk_at dksX11_init_16 15 rfl rfl)
theorem dX11_init_392 : decode cX11_init 392 = .ok (.sipush 256, 3) := dk_17 1 0 (dk_at dksX11_init_16 18 rfl rfl)
theorem dX11_init_395 : decode cX11_init 395 = .ok (.isub, 1) := dk_100 (dk_at dksX11_init_16 21 rfl rfl)
theorem dX11_init_396 : decode cX11_init 396 = .ok (.imul, 1) := dk_104 (dk_at dksX11_init_16 22 rfl rfl)
theorem dX11_init_397 : decode cX11_init 397 = .ok (.putfield 133, 3) := dk_181 0 133 (dk_at dksX11_init_17 0 rfl rfl)
theorem dX11_init_400 : decode cX11_init 400 = .ok (.aload_n 0, 1) := dk_42 (dk_at dksX11_init_17 3 rfl rfl)
theorem dX11_init_401 : decode cX11_init 401 = .ok (.aload_n 0, 1) := dk_42 (dk_at dksX11_init_17 4 rfl rfl)
theorem dX11_init_402 : decode cX11_init 402 = .ok (.getfield 126, 3) := dk_180 0 126 (dk_at dksX11_init_17 5 rfl rfl)
theorem dX11_init_405 : decode cX11_init 405 = .ok (.putfield 136, 3) := dk_181 0 136 (dk_at dksX11_init_17 8 rfl rfl)
theorem dX11_init_408 : decode cX11_init 408 = .ok (.iconst 0, 1) := dk_3 (dk_at dksX11_init_17 11 rfl rfl)
theorem dX11_init_409 : decode cX11_init 409 = .ok (.istore 6, 2) := dk_54 6 (dk_at dksX11_init_17 12 rfl rfl)
theorem dX11_init_411 : decode cX11_init 411 = .ok (.iload 6, 2) := dk_21 6 (dk_at dksX11_init_17 14 rfl rfl)
theorem dX11_init_413 : decode cX11_init 413 = .ok (.iconst 2, 1) := dk_5 (dk_at dksX11_init_17 16 rfl rfl)
theorem dX11_init_414 : decode cX11_init 414 = .ok (.if_icmp .ge 24, 3) := dk_162 0 24 (dk_at dksX11_init_17 17 rfl rfl)
theorem dX11_init_417 : decode cX11_init 417 = .ok (.aload_n 0, 1) := dk_42 (dk_at dksX11_init_17 20 rfl rfl)
theorem dX11_init_418 : decode cX11_init 418 = .ok (.getfield 17, 3) := dk_180 0 17 (dk_at dksX11_init_17 21 rfl rfl)
theorem dX11_init_421 : decode cX11_init 421 = .ok (.iload 6, 2) := dk_21 6 (dk_at dksX11_init_18 0 rfl rfl)
theorem dX11_init_423 : decode cX11_init 423 = .ok (.iconst 1, 1) := dk_4 (dk_at dksX11_init_18 2 rfl rfl)
theorem dX11_init_424 : decode cX11_init 424 = .ok (.iastore, 1) := dk_79 (dk_at dksX11_init_18 3 rfl rfl)
theorem dX11_init_425 : decode cX11_init 425 = .ok (.aload_n 0, 1) := dk_42 (dk_at dksX11_init_18 4 rfl rfl)
theorem dX11_init_426 : decode cX11_init 426 = .ok (.iload 6, 2) := dk_21 6 (dk_at dksX11_init_18 5 rfl rfl)
theorem dX11_init_428 : decode cX11_init 428 = .ok (.iconst 1, 1) := dk_4 (dk_at dksX11_init_18 7 rfl rfl)
theorem dX11_init_429 : decode cX11_init 429 = .ok (.invokevirtual 139, 3) := dk_182 0 139 (dk_at dksX11_init_18 8 rfl rfl)
theorem dX11_init_432 : decode cX11_init 432 = .ok (.iinc 6 1, 3) := dk_132 6 1 (dk_at dksX11_init_18 11 rfl rfl)
theorem dX11_init_435 : decode cX11_init 435 = .ok (.goto (-24), 3) := dk_167 255 232 (dk_at dksX11_init_18 14 rfl rfl)
theorem dX11_init_438 : decode cX11_init 438 = .ok (.return_, 1) := dk_177 (dk_at dksX11_init_18 17 rfl rfl)
abbrev cX11_addNode : ByteArray := prog_12_method_3_code
def yX11_addNode : MethodName := ⟨RX11, "addNode", "(II)V"⟩
def dkwX11_addNode_2 : List UInt8 := [79, 42, 180, 0, 17, 27, 92, 46, 4, 96, 79, 177]
abbrev dktX11_addNode_2 : List UInt8 := dkwX11_addNode_2 ++ []
def dkwX11_addNode_1 : List UInt8 := [79, 42, 180, 0, 26, 29, 28, 79, 42, 180, 0, 29, 29, 3, 79, 42, 180, 0, 20, 27, 92, 46, 4, 96]
abbrev dktX11_addNode_1 : List UInt8 := dkwX11_addNode_1 ++ dktX11_addNode_2
def dkwX11_addNode_0 : List UInt8 := [17, 2, 188, 27, 104, 42, 180, 0, 20, 27, 46, 96, 62, 42, 180, 0, 23, 29, 42, 180, 0, 17, 27, 46]
abbrev dktX11_addNode_0 : List UInt8 := dkwX11_addNode_0 ++ dktX11_addNode_1
theorem dksX11_addNode_0 : cX11_addNode.data.toList.drop 0 = dktX11_addNode_0 := by decide +kernel
theorem dksX11_addNode_1 : cX11_addNode.data.toList.drop 24 = dktX11_addNode_1 := dk_seg dksX11_addNode_0 24 rfl rfl
theorem dksX11_addNode_2 : cX11_addNode.data.toList.drop 48 = dktX11_addNode_2 := dk_seg dksX11_addNode_1 24 rfl rfl
theorem dX11_addNode_0 : decode cX11_addNode 0 = .ok (.sipush 700, 3) := dk_17 2 188 (dk_at dksX11_addNode_0 0 rfl rfl)
theorem dX11_addNode_3 : decode cX11_addNode 3 = .ok (.iload_n 1, 1) := dk_27 (dk_at dksX11_addNode_0 3 rfl rfl)
theorem dX11_addNode_4 : decode cX11_addNode 4 = .ok (.imul, 1) := dk_104 (dk_at dksX11_addNode_0 4 rfl rfl)
theorem dX11_addNode_5 : decode cX11_addNode 5 = .ok (.aload_n 0, 1) := dk_42 (dk_at dksX11_addNode_0 5 rfl rfl)
theorem dX11_addNode_6 : decode cX11_addNode 6 = .ok (.getfield 20, 3) := dk_180 0 20 (dk_at dksX11_addNode_0 6 rfl rfl)
theorem dX11_addNode_9 : decode cX11_addNode 9 = .ok (.iload_n 1, 1) := dk_27 (dk_at dksX11_addNode_0 9 rfl rfl)
theorem dX11_addNode_10 : decode cX11_addNode 10 = .ok (.iaload, 1) := dk_46 (dk_at dksX11_addNode_0 10 rfl rfl)
theorem dX11_addNode_11 : decode cX11_addNode 11 = .ok (.iadd, 1) := dk_96 (dk_at dksX11_addNode_0 11 rfl rfl)
theorem dX11_addNode_12 : decode cX11_addNode 12 = .ok (.istore_n 3, 1) := dk_62 (dk_at dksX11_addNode_0 12 rfl rfl)
theorem dX11_addNode_13 : decode cX11_addNode 13 = .ok (.aload_n 0, 1) := dk_42 (dk_at dksX11_addNode_0 13 rfl rfl)
theorem dX11_addNode_14 : decode cX11_addNode 14 = .ok (.getfield 23, 3) := dk_180 0 23 (dk_at dksX11_addNode_0 14 rfl rfl)
theorem dX11_addNode_17 : decode cX11_addNode 17 = .ok (.iload_n 3, 1) := dk_29 (dk_at dksX11_addNode_0 17 rfl rfl)
theorem dX11_addNode_18 : decode cX11_addNode 18 = .ok (.aload_n 0, 1) := dk_42 (dk_at dksX11_addNode_0 18 rfl rfl)
theorem dX11_addNode_19 : decode cX11_addNode 19 = .ok (.getfield 17, 3) := dk_180 0 17 (dk_at dksX11_addNode_0 19 rfl rfl)
theorem dX11_addNode_22 : decode cX11_addNode 22 = .ok (.iload_n 1, 1) := dk_27 (dk_at dksX11_addNode_0 22 rfl rfl)
theorem dX11_addNode_23 : decode cX11_addNode 23 = .ok (.iaload, 1) := dk_46 (dk_at dksX11_addNode_0 23 rfl rfl)
theorem dX11_addNode_24 : decode cX11_addNode 24 = .ok (.iastore, 1) := dk_79 (dk_at dksX11_addNode_1 0 rfl rfl)
theorem dX11_addNode_25 : decode cX11_addNode 25 = .ok (.aload_n 0, 1) := dk_42 (dk_at dksX11_addNode_1 1 rfl rfl)
theorem dX11_addNode_26 : decode cX11_addNode 26 = .ok (.getfield 26, 3) := dk_180 0 26 (dk_at dksX11_addNode_1 2 rfl rfl)
theorem dX11_addNode_29 : decode cX11_addNode 29 = .ok (.iload_n 3, 1) := dk_29 (dk_at dksX11_addNode_1 5 rfl rfl)
theorem dX11_addNode_30 : decode cX11_addNode 30 = .ok (.iload_n 2, 1) := dk_28 (dk_at dksX11_addNode_1 6 rfl rfl)
theorem dX11_addNode_31 : decode cX11_addNode 31 = .ok (.iastore, 1) := dk_79 (dk_at dksX11_addNode_1 7 rfl rfl)
theorem dX11_addNode_32 : decode cX11_addNode 32 = .ok (.aload_n 0, 1) := dk_42 (dk_at dksX11_addNode_1 8 rfl rfl)
theorem dX11_addNode_33 : decode cX11_addNode 33 = .ok (.getfield 29, 3) := dk_180 0 29 (dk_at dksX11_addNode_1 9 rfl rfl)
theorem dX11_addNode_36 : decode cX11_addNode 36 = .ok (.iload_n 3, 1) := dk_29 (dk_at dksX11_addNode_1 12 rfl rfl)
theorem dX11_addNode_37 : decode cX11_addNode 37 = .ok (.iconst 0, 1) := dk_3 (dk_at dksX11_addNode_1 13 rfl rfl)
theorem dX11_addNode_38 : decode cX11_addNode 38 = .ok (.iastore, 1) := dk_79 (dk_at dksX11_addNode_1 14 rfl rfl)
theorem dX11_addNode_39 : decode cX11_addNode 39 = .ok (.aload_n 0, 1) := dk_42 (dk_at dksX11_addNode_1 15 rfl rfl)
theorem dX11_addNode_40 : decode cX11_addNode 40 = .ok (.getfield 20, 3) := dk_180 0 20 (dk_at dksX11_addNode_1 16 rfl rfl)
theorem dX11_addNode_43 : decode cX11_addNode 43 = .ok (.iload_n 1, 1) := dk_27 (dk_at dksX11_addNode_1 19 rfl rfl)
theorem dX11_addNode_44 : decode cX11_addNode 44 = .ok (.dup2, 1) := dk_92 (dk_at dksX11_addNode_1 20 rfl rfl)
theorem dX11_addNode_45 : decode cX11_addNode 45 = .ok (.iaload, 1) := dk_46 (dk_at dksX11_addNode_1 21 rfl rfl)
theorem dX11_addNode_46 : decode cX11_addNode 46 = .ok (.iconst 1, 1) := dk_4 (dk_at dksX11_addNode_1 22 rfl rfl)
theorem dX11_addNode_47 : decode cX11_addNode 47 = .ok (.iadd, 1) := dk_96 (dk_at dksX11_addNode_1 23 rfl rfl)
theorem dX11_addNode_48 : decode cX11_addNode 48 = .ok (.iastore, 1) := dk_79 (dk_at dksX11_addNode_2 0 rfl rfl)
theorem dX11_addNode_49 : decode cX11_addNode 49 = .ok (.aload_n 0, 1) := dk_42 (dk_at dksX11_addNode_2 1 rfl rfl)
theorem dX11_addNode_50 : decode cX11_addNode 50 = .ok (.getfield 17, 3) := dk_180 0 17 (dk_at dksX11_addNode_2 2 rfl rfl)
theorem dX11_addNode_53 : decode cX11_addNode 53 = .ok (.iload_n 1, 1) := dk_27 (dk_at dksX11_addNode_2 5 rfl rfl)
theorem dX11_addNode_54 : decode cX11_addNode 54 = .ok (.dup2, 1) := dk_92 (dk_at dksX11_addNode_2 6 rfl rfl)
theorem dX11_addNode_55 : decode cX11_addNode 55 = .ok (.iaload, 1) := dk_46 (dk_at dksX11_addNode_2 7 rfl rfl)
theorem dX11_addNode_56 : decode cX11_addNode 56 = .ok (.iconst 1, 1) := dk_4 (dk_at dksX11_addNode_2 8 rfl rfl)
theorem dX11_addNode_57 : decode cX11_addNode 57 = .ok (.iadd, 1) := dk_96 (dk_at dksX11_addNode_2 9 rfl rfl)
theorem dX11_addNode_58 : decode cX11_addNode 58 = .ok (.iastore, 1) := dk_79 (dk_at dksX11_addNode_2 10 rfl rfl)
theorem dX11_addNode_59 : decode cX11_addNode 59 = .ok (.return_, 1) := dk_177 (dk_at dksX11_addNode_2 11 rfl rfl)
abbrev cX11_create : ByteArray := prog_12_method_31_code
def yX11_create : MethodName := ⟨RX11, "create", "(IJ)I"⟩
def dkwX11_create_0 : List UInt8 := [42, 27, 32, 5, 182, 0, 229, 172]
abbrev dktX11_create_0 : List UInt8 := dkwX11_create_0 ++ []
theorem dksX11_create_0 : cX11_create.data.toList.drop 0 = dktX11_create_0 := by decide +kernel
theorem dX11_create_0 : decode cX11_create 0 = .ok (.aload_n 0, 1) := dk_42 (dk_at dksX11_create_0 0 rfl rfl)
theorem dX11_create_1 : decode cX11_create 1 = .ok (.iload_n 1, 1) := dk_27 (dk_at dksX11_create_0 1 rfl rfl)
theorem dX11_create_2 : decode cX11_create 2 = .ok (.lload_n 2, 1) := dk_32 (dk_at dksX11_create_0 2 rfl rfl)
theorem dX11_create_3 : decode cX11_create 3 = .ok (.iconst 2, 1) := dk_5 (dk_at dksX11_create_0 3 rfl rfl)
theorem dX11_create_4 : decode cX11_create 4 = .ok (.invokevirtual 229, 3) := dk_182 0 229 (dk_at dksX11_create_0 4 rfl rfl)
theorem dX11_create_7 : decode cX11_create 7 = .ok (.ireturn, 1) := dk_172 (dk_at dksX11_create_0 7 rfl rfl)
abbrev cX11_make : ByteArray := prog_12_method_30_code
def yX11_make : MethodName := ⟨RX11, "make", "(IJI)I"⟩
def dkwX11_make_10 : List UInt8 := [160, 0, 7, 3, 167, 0, 7, 42, 180, 0, 213, 181, 0, 213, 21, 6, 172]
abbrev dktX11_make_10 : List UInt8 := dkwX11_make_10 ++ []
def dkwX11_make_9 : List UInt8 := [17, 0, 176, 42, 180, 0, 213, 184, 0, 154, 96, 167, 0, 6, 17, 0, 144, 182, 0, 226, 42, 21, 4, 6]
abbrev dktX11_make_9 : List UInt8 := dkwX11_make_9 ++ dktX11_make_10
def dkwX11_make_8 : List UInt8 := [180, 0, 111, 21, 8, 51, 167, 0, 4, 3, 84, 132, 8, 1, 167, 255, 213, 42, 21, 4, 6, 160, 0, 17]
abbrev dktX11_make_8 : List UInt8 := dkwX11_make_8 ++ dktX11_make_9
def dkwX11_make_7 : List UInt8 := [42, 180, 0, 102, 16, 64, 21, 7, 104, 21, 8, 96, 21, 8, 42, 180, 0, 213, 162, 0, 13, 42]
abbrev dktX11_make_7 : List UInt8 := dkwX11_make_7 ++ dktX11_make_8
def dkwX11_make_6 : List UInt8 := [160, 0, 63, 42, 180, 0, 86, 21, 7, 42, 180, 0, 213, 79, 3, 54, 8, 21, 8, 16, 64, 162, 0, 42]
abbrev dktX11_make_6 : List UInt8 := dkwX11_make_6 ++ dktX11_make_7
def dkwX11_make_5 : List UInt8 := [46, 54, 6, 42, 4, 27, 21, 4, 182, 0, 223, 54, 7, 42, 180, 0, 96, 21, 7, 32, 80, 21, 4, 6]
abbrev dktX11_make_5 : List UInt8 := dkwX11_make_5 ++ dktX11_make_6
def dkwX11_make_4 : List UInt8 := [184, 0, 154, 96, 167, 0, 4, 3, 96, 42, 180, 0, 133, 164, 0, 6, 16, 246, 172, 42, 180, 0, 17, 3]
abbrev dktX11_make_4 : List UInt8 := dkwX11_make_4 ++ dktX11_make_5
def dkwX11_make_3 : List UInt8 := [16, 251, 172, 42, 182, 0, 219, 17, 1, 224, 96, 21, 4, 6, 160, 0, 17, 17, 0, 224, 42, 180, 0, 213]
abbrev dktX11_make_3 : List UInt8 := dkwX11_make_3 ++ dktX11_make_4
def dkwX11_make_2 : List UInt8 := [182, 0, 216, 54, 5, 21, 5, 153, 0, 6, 21, 5, 172, 42, 3, 27, 32, 182, 0, 162, 2, 159, 0, 6]
abbrev dktX11_make_2 : List UInt8 := dkwX11_make_2 ++ dktX11_make_3
def dkwX11_make_1 : List UInt8 := [180, 0, 213, 153, 0, 12, 42, 180, 0, 213, 16, 64, 164, 0, 8, 16, 253, 167, 0, 8, 42, 27]
abbrev dktX11_make_1 : List UInt8 := dkwX11_make_1 ++ dktX11_make_2
def dkwX11_make_0 : List UInt8 := [42, 180, 0, 7, 154, 0, 6, 16, 254, 172, 32, 184, 0, 209, 153, 0, 25, 21, 4, 6, 160, 0, 24, 42]
abbrev dktX11_make_0 : List UInt8 := dkwX11_make_0 ++ dktX11_make_1
theorem dksX11_make_0 : cX11_make.data.toList.drop 0 = dktX11_make_0 := by decide +kernel
theorem dksX11_make_1 : cX11_make.data.toList.drop 24 = dktX11_make_1 := dk_seg dksX11_make_0 24 rfl rfl
theorem dksX11_make_2 : cX11_make.data.toList.drop 46 = dktX11_make_2 := dk_seg dksX11_make_1 22 rfl rfl
theorem dksX11_make_3 : cX11_make.data.toList.drop 70 = dktX11_make_3 := dk_seg dksX11_make_2 24 rfl rfl
theorem dksX11_make_4 : cX11_make.data.toList.drop 94 = dktX11_make_4 := dk_seg dksX11_make_3 24 rfl rfl
theorem dksX11_make_5 : cX11_make.data.toList.drop 118 = dktX11_make_5 := dk_seg dksX11_make_4 24 rfl rfl
theorem dksX11_make_6 : cX11_make.data.toList.drop 142 = dktX11_make_6 := dk_seg dksX11_make_5 24 rfl rfl
theorem dksX11_make_7 : cX11_make.data.toList.drop 166 = dktX11_make_7 := dk_seg dksX11_make_6 24 rfl rfl
theorem dksX11_make_8 : cX11_make.data.toList.drop 188 = dktX11_make_8 := dk_seg dksX11_make_7 22 rfl rfl
theorem dksX11_make_9 : cX11_make.data.toList.drop 212 = dktX11_make_9 := dk_seg dksX11_make_8 24 rfl rfl
theorem dksX11_make_10 : cX11_make.data.toList.drop 236 = dktX11_make_10 := dk_seg dksX11_make_9 24 rfl rfl
theorem dX11_make_0 : decode cX11_make 0 = .ok (.aload_n 0, 1) := dk_42 (dk_at dksX11_make_0 0 rfl rfl)
theorem dX11_make_1 : decode cX11_make 1 = .ok (.getfield 7, 3) := dk_180 0 7 (dk_at dksX11_make_0 1 rfl rfl)
theorem dX11_make_4 : decode cX11_make 4 = .ok (.ifCond .ne 6, 3) := dk_154 0 6 (dk_at dksX11_make_0 4 rfl rfl)
theorem dX11_make_7 : decode cX11_make 7 = .ok (.bipush (-2), 2) := dk_16 254 (dk_at dksX11_make_0 7 rfl rfl)
theorem dX11_make_9 : decode cX11_make 9 = .ok (.ireturn, 1) := dk_172 (dk_at dksX11_make_0 9 rfl rfl)
theorem dX11_make_10 : decode cX11_make 10 = .ok (.lload_n 2, 1) := dk_32 (dk_at dksX11_make_0 10 rfl rfl)
theorem dX11_make_11 : decode cX11_make 11 = .ok (.invokestatic 209, 3) := dk_184 0 209 (dk_at dksX11_make_0 11 rfl rfl)
theorem dX11_make_14 : decode cX11_make 14 = .ok (.ifCond .eq 25, 3) := dk_153 0 25 (dk_at dksX11_make_0 14 rfl rfl)
theorem dX11_make_17 : decode cX11_make 17 = .ok (.iload 4, 2) := dk_21 4 (dk_at dksX11_make_0 17 rfl rfl)
theorem dX11_make_19 : decode cX11_make 19 = .ok (.iconst 3, 1) := dk_6 (dk_at dksX11_make_0 19 rfl rfl)
theorem dX11_make_20 : decode cX11_make 20 = .ok (.if_icmp .ne 24, 3) := dk_160 0 24 (dk_at dksX11_make_0 20 rfl rfl)
theorem dX11_make_23 : decode cX11_make 23 = .ok (.aload_n 0, 1) := dk_42 (dk_at dksX11_make_0 23 rfl rfl)
theorem dX11_make_24 : decode cX11_make 24 = .ok (.getfield 213, 3) := dk_180 0 213 (dk_at dksX11_make_1 0 rfl rfl)
theorem dX11_make_27 : decode cX11_make 27 = .ok (.ifCond .eq 12, 3) := dk_153 0 12 (dk_at dksX11_make_1 3 rfl rfl)
theorem dX11_make_30 : decode cX11_make 30 = .ok (.aload_n 0, 1) := dk_42 (dk_at dksX11_make_1 6 rfl rfl)
theorem dX11_make_31 : decode cX11_make 31 = .ok (.getfield 213, 3) := dk_180 0 213 (dk_at dksX11_make_1 7 rfl rfl)
theorem dX11_make_34 : decode cX11_make 34 = .ok (.bipush 64, 2) := dk_16 64 (dk_at dksX11_make_1 10 rfl rfl)
theorem dX11_make_36 : decode cX11_make 36 = .ok (.if_icmp .le 8, 3) := dk_164 0 8 (dk_at dksX11_make_1 12 rfl rfl)
theorem dX11_make_39 : decode cX11_make 39 = .ok (.bipush (-3), 2) := dk_16 253 (dk_at dksX11_make_1 15 rfl rfl)
theorem dX11_make_41 : decode cX11_make 41 = .ok (.goto 8, 3) := dk_167 0 8 (dk_at dksX11_make_1 17 rfl rfl)
theorem dX11_make_44 : decode cX11_make 44 = .ok (.aload_n 0, 1) := dk_42 (dk_at dksX11_make_1 20 rfl rfl)
theorem dX11_make_45 : decode cX11_make 45 = .ok (.iload_n 1, 1) := dk_27 (dk_at dksX11_make_1 21 rfl rfl)
theorem dX11_make_46 : decode cX11_make 46 = .ok (.invokevirtual 216, 3) := dk_182 0 216 (dk_at dksX11_make_2 0 rfl rfl)
theorem dX11_make_49 : decode cX11_make 49 = .ok (.istore 5, 2) := dk_54 5 (dk_at dksX11_make_2 3 rfl rfl)
theorem dX11_make_51 : decode cX11_make 51 = .ok (.iload 5, 2) := dk_21 5 (dk_at dksX11_make_2 5 rfl rfl)
theorem dX11_make_53 : decode cX11_make 53 = .ok (.ifCond .eq 6, 3) := dk_153 0 6 (dk_at dksX11_make_2 7 rfl rfl)
theorem dX11_make_56 : decode cX11_make 56 = .ok (.iload 5, 2) := dk_21 5 (dk_at dksX11_make_2 10 rfl rfl)
theorem dX11_make_58 : decode cX11_make 58 = .ok (.ireturn, 1) := dk_172 (dk_at dksX11_make_2 12 rfl rfl)
theorem dX11_make_59 : decode cX11_make 59 = .ok (.aload_n 0, 1) := dk_42 (dk_at dksX11_make_2 13 rfl rfl)
theorem dX11_make_60 : decode cX11_make 60 = .ok (.iconst 0, 1) := dk_3 (dk_at dksX11_make_2 14 rfl rfl)
theorem dX11_make_61 : decode cX11_make 61 = .ok (.iload_n 1, 1) := dk_27 (dk_at dksX11_make_2 15 rfl rfl)
theorem dX11_make_62 : decode cX11_make 62 = .ok (.lload_n 2, 1) := dk_32 (dk_at dksX11_make_2 16 rfl rfl)
theorem dX11_make_63 : decode cX11_make 63 = .ok (.invokevirtual 162, 3) := dk_182 0 162 (dk_at dksX11_make_2 17 rfl rfl)
theorem dX11_make_66 : decode cX11_make 66 = .ok (.iconst (-1), 1) := dk_2 (dk_at dksX11_make_2 20 rfl rfl)
theorem dX11_make_67 : decode cX11_make 67 = .ok (.if_icmp .eq 6, 3) := dk_159 0 6 (dk_at dksX11_make_2 21 rfl rfl)
theorem dX11_make_70 : decode cX11_make 70 = .ok (.bipush (-5), 2) := dk_16 251 (dk_at dksX11_make_3 0 rfl rfl)
theorem dX11_make_72 : decode cX11_make 72 = .ok (.ireturn, 1) := dk_172 (dk_at dksX11_make_3 2 rfl rfl)
theorem dX11_make_73 : decode cX11_make 73 = .ok (.aload_n 0, 1) := dk_42 (dk_at dksX11_make_3 3 rfl rfl)
theorem dX11_make_74 : decode cX11_make 74 = .ok (.invokevirtual 219, 3) := dk_182 0 219 (dk_at dksX11_make_3 4 rfl rfl)
theorem dX11_make_77 : decode cX11_make 77 = .ok (.sipush 480, 3) := dk_17 1 224 (dk_at dksX11_make_3 7 rfl rfl)
theorem dX11_make_80 : decode cX11_make 80 = .ok (.iadd, 1) := dk_96 (dk_at dksX11_make_3 10 rfl rfl)
theorem dX11_make_81 : decode cX11_make 81 = .ok (.iload 4, 2) := dk_21 4 (dk_at dksX11_make_3 11 rfl rfl)
theorem dX11_make_83 : decode cX11_make 83 = .ok (.iconst 3, 1) := dk_6 (dk_at dksX11_make_3 13 rfl rfl)
theorem dX11_make_84 : decode cX11_make 84 = .ok (.if_icmp .ne 17, 3) := dk_160 0 17 (dk_at dksX11_make_3 14 rfl rfl)
theorem dX11_make_87 : decode cX11_make 87 = .ok (.sipush 224, 3) := dk_17 0 224 (dk_at dksX11_make_3 17 rfl rfl)
theorem dX11_make_90 : decode cX11_make 90 = .ok (.aload_n 0, 1) := dk_42 (dk_at dksX11_make_3 20 rfl rfl)
theorem dX11_make_91 : decode cX11_make 91 = .ok (.getfield 213, 3) := dk_180 0 213 (dk_at dksX11_make_3 21 rfl rfl)
theorem dX11_make_94 : decode cX11_make 94 = .ok (.invokestatic 154, 3) := dk_184 0 154 (dk_at dksX11_make_4 0 rfl rfl)
theorem dX11_make_97 : decode cX11_make 97 = .ok (.iadd, 1) := dk_96 (dk_at dksX11_make_4 3 rfl rfl)
theorem dX11_make_98 : decode cX11_make 98 = .ok (.goto 4, 3) := dk_167 0 4 (dk_at dksX11_make_4 4 rfl rfl)
theorem dX11_make_101 : decode cX11_make 101 = .ok (.iconst 0, 1) := dk_3 (dk_at dksX11_make_4 7 rfl rfl)
theorem dX11_make_102 : decode cX11_make 102 = .ok (.iadd, 1) := dk_96 (dk_at dksX11_make_4 8 rfl rfl)
theorem dX11_make_103 : decode cX11_make 103 = .ok (.aload_n 0, 1) := dk_42 (dk_at dksX11_make_4 9 rfl rfl)
theorem dX11_make_104 : decode cX11_make 104 = .ok (.getfield 133, 3) := dk_180 0 133 (dk_at dksX11_make_4 10 rfl rfl)
theorem dX11_make_107 : decode cX11_make 107 = .ok (.if_icmp .le 6, 3) := dk_164 0 6 (dk_at dksX11_make_4 13 rfl rfl)
theorem dX11_make_110 : decode cX11_make 110 = .ok (.bipush (-10), 2) := dk_16 246 (dk_at dksX11_make_4 16 rfl rfl)
theorem dX11_make_112 : decode cX11_make 112 = .ok (.ireturn, 1) := dk_172 (dk_at dksX11_make_4 18 rfl rfl)
theorem dX11_make_113 : decode cX11_make 113 = .ok (.aload_n 0, 1) := dk_42 (dk_at dksX11_make_4 19 rfl rfl)
theorem dX11_make_114 : decode cX11_make 114 = .ok (.getfield 17, 3) := dk_180 0 17 (dk_at dksX11_make_4 20 rfl rfl)
theorem dX11_make_117 : decode cX11_make 117 = .ok (.iconst 0, 1) := dk_3 (dk_at dksX11_make_4 23 rfl rfl)
theorem dX11_make_118 : decode cX11_make 118 = .ok (.iaload, 1) := dk_46 (dk_at dksX11_make_5 0 rfl rfl)
theorem dX11_make_119 : decode cX11_make 119 = .ok (.istore 6, 2) := dk_54 6 (dk_at dksX11_make_5 1 rfl rfl)
theorem dX11_make_121 : decode cX11_make 121 = .ok (.aload_n 0, 1) := dk_42 (dk_at dksX11_make_5 3 rfl rfl)
theorem dX11_make_122 : decode cX11_make 122 = .ok (.iconst 1, 1) := dk_4 (dk_at dksX11_make_5 4 rfl rfl)
theorem dX11_make_123 : decode cX11_make 123 = .ok (.iload_n 1, 1) := dk_27 (dk_at dksX11_make_5 5 rfl rfl)
theorem dX11_make_124 : decode cX11_make 124 = .ok (.iload 4, 2) := dk_21 4 (dk_at dksX11_make_5 6 rfl rfl)
theorem dX11_make_126 : decode cX11_make 126 = .ok (.invokevirtual 223, 3) := dk_182 0 223 (dk_at dksX11_make_5 8 rfl rfl)
theorem dX11_make_129 : decode cX11_make 129 = .ok (.istore 7, 2) := dk_54 7 (dk_at dksX11_make_5 11 rfl rfl)
theorem dX11_make_131 : decode cX11_make 131 = .ok (.aload_n 0, 1) := dk_42 (dk_at dksX11_make_5 13 rfl rfl)
theorem dX11_make_132 : decode cX11_make 132 = .ok (.getfield 96, 3) := dk_180 0 96 (dk_at dksX11_make_5 14 rfl rfl)
theorem dX11_make_135 : decode cX11_make 135 = .ok (.iload 7, 2) := dk_21 7 (dk_at dksX11_make_5 17 rfl rfl)
theorem dX11_make_137 : decode cX11_make 137 = .ok (.lload_n 2, 1) := dk_32 (dk_at dksX11_make_5 19 rfl rfl)
theorem dX11_make_138 : decode cX11_make 138 = .ok (.lastore, 1) := dk_80 (dk_at dksX11_make_5 20 rfl rfl)
theorem dX11_make_139 : decode cX11_make 139 = .ok (.iload 4, 2) := dk_21 4 (dk_at dksX11_make_5 21 rfl rfl)
theorem dX11_make_141 : decode cX11_make 141 = .ok (.iconst 3, 1) := dk_6 (dk_at dksX11_make_5 23 rfl rfl)
theorem dX11_make_142 : decode cX11_make 142 = .ok (.if_icmp .ne 63, 3) := dk_160 0 63 (dk_at dksX11_make_6 0 rfl rfl)
theorem dX11_make_145 : decode cX11_make 145 = .ok (.aload_n 0, 1) := dk_42 (dk_at dksX11_make_6 3 rfl rfl)
theorem dX11_make_146 : decode cX11_make 146 = .ok (.getfield 86, 3) := dk_180 0 86 (dk_at dksX11_make_6 4 rfl rfl)
theorem dX11_make_149 : decode cX11_make 149 = .ok (.iload 7, 2) := dk_21 7 (dk_at dksX11_make_6 7 rfl rfl)
theorem dX11_make_151 : decode cX11_make 151 = .ok (.aload_n 0, 1) := dk_42 (dk_at dksX11_make_6 9 rfl rfl)
theorem dX11_make_152 : decode cX11_make 152 = .ok (.getfield 213, 3) := dk_180 0 213 (dk_at dksX11_make_6 10 rfl rfl)
theorem dX11_make_155 : decode cX11_make 155 = .ok (.iastore, 1) := dk_79 (dk_at dksX11_make_6 13 rfl rfl)
theorem dX11_make_156 : decode cX11_make 156 = .ok (.iconst 0, 1) := dk_3 (dk_at dksX11_make_6 14 rfl rfl)
theorem dX11_make_157 : decode cX11_make 157 = .ok (.istore 8, 2) := dk_54 8 (dk_at dksX11_make_6 15 rfl rfl)
theorem dX11_make_159 : decode cX11_make 159 = .ok (.iload 8, 2) := dk_21 8 (dk_at dksX11_make_6 17 rfl rfl)
theorem dX11_make_161 : decode cX11_make 161 = .ok (.bipush 64, 2) := dk_16 64 (dk_at dksX11_make_6 19 rfl rfl)
theorem dX11_make_163 : decode cX11_make 163 = .ok (.if_icmp .ge 42, 3) := dk_162 0 42 (dk_at dksX11_make_6 21 rfl rfl)
theorem dX11_make_166 : decode cX11_make 166 = .ok (.aload_n 0, 1) := dk_42 (dk_at dksX11_make_7 0 rfl rfl)
theorem dX11_make_167 : decode cX11_make 167 = .ok (.getfield 102, 3) := dk_180 0 102 (dk_at dksX11_make_7 1 rfl rfl)
theorem dX11_make_170 : decode cX11_make 170 = .ok (.bipush 64, 2) := dk_16 64 (dk_at dksX11_make_7 4 rfl rfl)
theorem dX11_make_172 : decode cX11_make 172 = .ok (.iload 7, 2) := dk_21 7 (dk_at dksX11_make_7 6 rfl rfl)
theorem dX11_make_174 : decode cX11_make 174 = .ok (.imul, 1) := dk_104 (dk_at dksX11_make_7 8 rfl rfl)
theorem dX11_make_175 : decode cX11_make 175 = .ok (.iload 8, 2) := dk_21 8 (dk_at dksX11_make_7 9 rfl rfl)
theorem dX11_make_177 : decode cX11_make 177 = .ok (.iadd, 1) := dk_96 (dk_at dksX11_make_7 11 rfl rfl)
theorem dX11_make_178 : decode cX11_make 178 = .ok (.iload 8, 2) := dk_21 8 (dk_at dksX11_make_7 12 rfl rfl)
theorem dX11_make_180 : decode cX11_make 180 = .ok (.aload_n 0, 1) := dk_42 (dk_at dksX11_make_7 14 rfl rfl)
theorem dX11_make_181 : decode cX11_make 181 = .ok (.getfield 213, 3) := dk_180 0 213 (dk_at dksX11_make_7 15 rfl rfl)
theorem dX11_make_184 : decode cX11_make 184 = .ok (.if_icmp .ge 13, 3) := dk_162 0 13 (dk_at dksX11_make_7 18 rfl rfl)
theorem dX11_make_187 : decode cX11_make 187 = .ok (.aload_n 0, 1) := dk_42 (dk_at dksX11_make_7 21 rfl rfl)
theorem dX11_make_188 : decode cX11_make 188 = .ok (.getfield 111, 3) := dk_180 0 111 (dk_at dksX11_make_8 0 rfl rfl)
theorem dX11_make_191 : decode cX11_make 191 = .ok (.iload 8, 2) := dk_21 8 (dk_at dksX11_make_8 3 rfl rfl)
theorem dX11_make_193 : decode cX11_make 193 = .ok (.baload, 1) := dk_51 (dk_at dksX11_make_8 5 rfl rfl)
theorem dX11_make_194 : decode cX11_make 194 = .ok (.goto 4, 3) := dk_167 0 4 (dk_at dksX11_make_8 6 rfl rfl)
theorem dX11_make_197 : decode cX11_make 197 = .ok (.iconst 0, 1) := dk_3 (dk_at dksX11_make_8 9 rfl rfl)
theorem dX11_make_198 : decode cX11_make 198 = .ok (.bastore, 1) := dk_84 (dk_at dksX11_make_8 10 rfl rfl)
theorem dX11_make_199 : decode cX11_make 199 = .ok (.iinc 8 1, 3) := dk_132 8 1 (dk_at dksX11_make_8 11 rfl rfl)
theorem dX11_make_202 : decode cX11_make 202 = .ok (.goto (-43), 3) := dk_167 255 213 (dk_at dksX11_make_8 14 rfl rfl)
theorem dX11_make_205 : decode cX11_make 205 = .ok (.aload_n 0, 1) := dk_42 (dk_at dksX11_make_8 17 rfl rfl)
theorem dX11_make_206 : decode cX11_make 206 = .ok (.iload 4, 2) := dk_21 4 (dk_at dksX11_make_8 18 rfl rfl)
theorem dX11_make_208 : decode cX11_make 208 = .ok (.iconst 3, 1) := dk_6 (dk_at dksX11_make_8 20 rfl rfl)
theorem dX11_make_209 : decode cX11_make 209 = .ok (.if_icmp .ne 17, 3) := dk_160 0 17 (dk_at dksX11_make_8 21 rfl rfl)
theorem dX11_make_212 : decode cX11_make 212 = .ok (.sipush 176, 3) := dk_17 0 176 (dk_at dksX11_make_9 0 rfl rfl)
theorem dX11_make_215 : decode cX11_make 215 = .ok (.aload_n 0, 1) := dk_42 (dk_at dksX11_make_9 3 rfl rfl)
theorem dX11_make_216 : decode cX11_make 216 = .ok (.getfield 213, 3) := dk_180 0 213 (dk_at dksX11_make_9 4 rfl rfl)
theorem dX11_make_219 : decode cX11_make 219 = .ok (.invokestatic 154, 3) := dk_184 0 154 (dk_at dksX11_make_9 7 rfl rfl)
theorem dX11_make_222 : decode cX11_make 222 = .ok (.iadd, 1) := dk_96 (dk_at dksX11_make_9 10 rfl rfl)
theorem dX11_make_223 : decode cX11_make 223 = .ok (.goto 6, 3) := dk_167 0 6 (dk_at dksX11_make_9 11 rfl rfl)
theorem dX11_make_226 : decode cX11_make 226 = .ok (.sipush 144, 3) := dk_17 0 144 (dk_at dksX11_make_9 14 rfl rfl)
theorem dX11_make_229 : decode cX11_make 229 = .ok (.invokevirtual 226, 3) := dk_182 0 226 (dk_at dksX11_make_9 17 rfl rfl)
theorem dX11_make_232 : decode cX11_make 232 = .ok (.aload_n 0, 1) := dk_42 (dk_at dksX11_make_9 20 rfl rfl)
theorem dX11_make_233 : decode cX11_make 233 = .ok (.iload 4, 2) := dk_21 4 (dk_at dksX11_make_9 21 rfl rfl)
theorem dX11_make_235 : decode cX11_make 235 = .ok (.iconst 3, 1) := dk_6 (dk_at dksX11_make_9 23 rfl rfl)
theorem dX11_make_236 : decode cX11_make 236 = .ok (.if_icmp .ne 7, 3) := dk_160 0 7 (dk_at dksX11_make_10 0 rfl rfl)
theorem dX11_make_239 : decode cX11_make 239 = .ok (.iconst 0, 1) := dk_3 (dk_at dksX11_make_10 3 rfl rfl)
theorem dX11_make_240 : decode cX11_make 240 = .ok (.goto 7, 3) := dk_167 0 7 (dk_at dksX11_make_10 4 rfl rfl)
theorem dX11_make_243 : decode cX11_make 243 = .ok (.aload_n 0, 1) := dk_42 (dk_at dksX11_make_10 7 rfl rfl)
theorem dX11_make_244 : decode cX11_make 244 = .ok (.getfield 213, 3) := dk_180 0 213 (dk_at dksX11_make_10 8 rfl rfl)
theorem dX11_make_247 : decode cX11_make 247 = .ok (.putfield 213, 3) := dk_181 0 213 (dk_at dksX11_make_10 11 rfl rfl)
theorem dX11_make_250 : decode cX11_make 250 = .ok (.iload 6, 2) := dk_21 6 (dk_at dksX11_make_10 14 rfl rfl)
theorem dX11_make_252 : decode cX11_make 252 = .ok (.ireturn, 1) := dk_172 (dk_at dksX11_make_10 16 rfl rfl)
abbrev cX11_isName : ByteArray := prog_12_method_27_code
def yX11_isName : MethodName := ⟨RX11, "isName", "(J)Z"⟩
def dkwX11_isName_3 : List UInt8 := [62, 132, 4, 1, 167, 255, 197, 28, 172]
abbrev dktX11_isName_3 : List UInt8 := dkwX11_isName_3 ++ []
def dkwX11_isName_2 : List UInt8 := [29, 154, 0, 7, 4, 167, 0, 4, 3, 61, 29, 154, 0, 8, 21, 5, 154, 0, 7, 4, 167, 0, 4, 3]
abbrev dktX11_isName_2 : List UInt8 := dkwX11_isName_2 ++ dktX11_isName_3
def dkwX11_isName_1 : List UInt8 := [30, 21, 4, 184, 0, 205, 54, 5, 28, 153, 0, 23, 21, 5, 16, 47, 159, 0, 16, 21, 5, 153, 0, 7]
abbrev dktX11_isName_1 : List UInt8 := dkwX11_isName_1 ++ dktX11_isName_2
def dkwX11_isName_0 : List UInt8 := [30, 9, 148, 153, 0, 7, 4, 167, 0, 4, 3, 61, 3, 62, 3, 54, 4, 21, 4, 16, 8, 162, 0, 58]
abbrev dktX11_isName_0 : List UInt8 := dkwX11_isName_0 ++ dktX11_isName_1
theorem dksX11_isName_0 : cX11_isName.data.toList.drop 0 = dktX11_isName_0 := by decide +kernel
theorem dksX11_isName_1 : cX11_isName.data.toList.drop 24 = dktX11_isName_1 := dk_seg dksX11_isName_0 24 rfl rfl
theorem dksX11_isName_2 : cX11_isName.data.toList.drop 48 = dktX11_isName_2 := dk_seg dksX11_isName_1 24 rfl rfl
theorem dksX11_isName_3 : cX11_isName.data.toList.drop 72 = dktX11_isName_3 := dk_seg dksX11_isName_2 24 rfl rfl
theorem dX11_isName_0 : decode cX11_isName 0 = .ok (.lload_n 0, 1) := dk_30 (dk_at dksX11_isName_0 0 rfl rfl)
theorem dX11_isName_1 : decode cX11_isName 1 = .ok (.lconst 0, 1) := dk_9 (dk_at dksX11_isName_0 1 rfl rfl)
theorem dX11_isName_2 : decode cX11_isName 2 = .ok (.lcmp, 1) := dk_148 (dk_at dksX11_isName_0 2 rfl rfl)
theorem dX11_isName_3 : decode cX11_isName 3 = .ok (.ifCond .eq 7, 3) := dk_153 0 7 (dk_at dksX11_isName_0 3 rfl rfl)
theorem dX11_isName_6 : decode cX11_isName 6 = .ok (.iconst 1, 1) := dk_4 (dk_at dksX11_isName_0 6 rfl rfl)
theorem dX11_isName_7 : decode cX11_isName 7 = .ok (.goto 4, 3) := dk_167 0 4 (dk_at dksX11_isName_0 7 rfl rfl)
theorem dX11_isName_10 : decode cX11_isName 10 = .ok (.iconst 0, 1) := dk_3 (dk_at dksX11_isName_0 10 rfl rfl)
theorem dX11_isName_11 : decode cX11_isName 11 = .ok (.istore_n 2, 1) := dk_61 (dk_at dksX11_isName_0 11 rfl rfl)
theorem dX11_isName_12 : decode cX11_isName 12 = .ok (.iconst 0, 1) := dk_3 (dk_at dksX11_isName_0 12 rfl rfl)
theorem dX11_isName_13 : decode cX11_isName 13 = .ok (.istore_n 3, 1) := dk_62 (dk_at dksX11_isName_0 13 rfl rfl)
theorem dX11_isName_14 : decode cX11_isName 14 = .ok (.iconst 0, 1) := dk_3 (dk_at dksX11_isName_0 14 rfl rfl)
theorem dX11_isName_15 : decode cX11_isName 15 = .ok (.istore 4, 2) := dk_54 4 (dk_at dksX11_isName_0 15 rfl rfl)
theorem dX11_isName_17 : decode cX11_isName 17 = .ok (.iload 4, 2) := dk_21 4 (dk_at dksX11_isName_0 17 rfl rfl)
theorem dX11_isName_19 : decode cX11_isName 19 = .ok (.bipush 8, 2) := dk_16 8 (dk_at dksX11_isName_0 19 rfl rfl)
theorem dX11_isName_21 : decode cX11_isName 21 = .ok (.if_icmp .ge 58, 3) := dk_162 0 58 (dk_at dksX11_isName_0 21 rfl rfl)
theorem dX11_isName_24 : decode cX11_isName 24 = .ok (.lload_n 0, 1) := dk_30 (dk_at dksX11_isName_1 0 rfl rfl)
theorem dX11_isName_25 : decode cX11_isName 25 = .ok (.iload 4, 2) := dk_21 4 (dk_at dksX11_isName_1 1 rfl rfl)
theorem dX11_isName_27 : decode cX11_isName 27 = .ok (.invokestatic 205, 3) := dk_184 0 205 (dk_at dksX11_isName_1 3 rfl rfl)
theorem dX11_isName_30 : decode cX11_isName 30 = .ok (.istore 5, 2) := dk_54 5 (dk_at dksX11_isName_1 6 rfl rfl)
theorem dX11_isName_32 : decode cX11_isName 32 = .ok (.iload_n 2, 1) := dk_28 (dk_at dksX11_isName_1 8 rfl rfl)
theorem dX11_isName_33 : decode cX11_isName 33 = .ok (.ifCond .eq 23, 3) := dk_153 0 23 (dk_at dksX11_isName_1 9 rfl rfl)
theorem dX11_isName_36 : decode cX11_isName 36 = .ok (.iload 5, 2) := dk_21 5 (dk_at dksX11_isName_1 12 rfl rfl)
theorem dX11_isName_38 : decode cX11_isName 38 = .ok (.bipush 47, 2) := dk_16 47 (dk_at dksX11_isName_1 14 rfl rfl)
theorem dX11_isName_40 : decode cX11_isName 40 = .ok (.if_icmp .eq 16, 3) := dk_159 0 16 (dk_at dksX11_isName_1 16 rfl rfl)
theorem dX11_isName_43 : decode cX11_isName 43 = .ok (.iload 5, 2) := dk_21 5 (dk_at dksX11_isName_1 19 rfl rfl)
theorem dX11_isName_45 : decode cX11_isName 45 = .ok (.ifCond .eq 7, 3) := dk_153 0 7 (dk_at dksX11_isName_1 21 rfl rfl)
theorem dX11_isName_48 : decode cX11_isName 48 = .ok (.iload_n 3, 1) := dk_29 (dk_at dksX11_isName_2 0 rfl rfl)
theorem dX11_isName_49 : decode cX11_isName 49 = .ok (.ifCond .ne 7, 3) := dk_154 0 7 (dk_at dksX11_isName_2 1 rfl rfl)
theorem dX11_isName_52 : decode cX11_isName 52 = .ok (.iconst 1, 1) := dk_4 (dk_at dksX11_isName_2 4 rfl rfl)
theorem dX11_isName_53 : decode cX11_isName 53 = .ok (.goto 4, 3) := dk_167 0 4 (dk_at dksX11_isName_2 5 rfl rfl)
theorem dX11_isName_56 : decode cX11_isName 56 = .ok (.iconst 0, 1) := dk_3 (dk_at dksX11_isName_2 8 rfl rfl)
theorem dX11_isName_57 : decode cX11_isName 57 = .ok (.istore_n 2, 1) := dk_61 (dk_at dksX11_isName_2 9 rfl rfl)
theorem dX11_isName_58 : decode cX11_isName 58 = .ok (.iload_n 3, 1) := dk_29 (dk_at dksX11_isName_2 10 rfl rfl)
theorem dX11_isName_59 : decode cX11_isName 59 = .ok (.ifCond .ne 8, 3) := dk_154 0 8 (dk_at dksX11_isName_2 11 rfl rfl)
theorem dX11_isName_62 : decode cX11_isName 62 = .ok (.iload 5, 2) := dk_21 5 (dk_at dksX11_isName_2 14 rfl rfl)
theorem dX11_isName_64 : decode cX11_isName 64 = .ok (.ifCond .ne 7, 3) := dk_154 0 7 (dk_at dksX11_isName_2 16 rfl rfl)
theorem dX11_isName_67 : decode cX11_isName 67 = .ok (.iconst 1, 1) := dk_4 (dk_at dksX11_isName_2 19 rfl rfl)
theorem dX11_isName_68 : decode cX11_isName 68 = .ok (.goto 4, 3) := dk_167 0 4 (dk_at dksX11_isName_2 20 rfl rfl)
theorem dX11_isName_71 : decode cX11_isName 71 = .ok (.iconst 0, 1) := dk_3 (dk_at dksX11_isName_2 23 rfl rfl)
theorem dX11_isName_72 : decode cX11_isName 72 = .ok (.istore_n 3, 1) := dk_62 (dk_at dksX11_isName_3 0 rfl rfl)
theorem dX11_isName_73 : decode cX11_isName 73 = .ok (.iinc 4 1, 3) := dk_132 4 1 (dk_at dksX11_isName_3 1 rfl rfl)
theorem dX11_isName_76 : decode cX11_isName 76 = .ok (.goto (-59), 3) := dk_167 255 197 (dk_at dksX11_isName_3 4 rfl rfl)
theorem dX11_isName_79 : decode cX11_isName 79 = .ok (.iload_n 2, 1) := dk_28 (dk_at dksX11_isName_3 7 rfl rfl)
theorem dX11_isName_80 : decode cX11_isName 80 = .ok (.ireturn, 1) := dk_172 (dk_at dksX11_isName_3 8 rfl rfl)
abbrev cX11_letter : ByteArray := prog_12_method_26_code
def yX11_letter : MethodName := ⟨RX11, "letter", "(JI)I"⟩
def dkwX11_letter_0 : List UInt8 := [30, 16, 8, 28, 104, 123, 136, 17, 0, 255, 126, 172]
abbrev dktX11_letter_0 : List UInt8 := dkwX11_letter_0 ++ []
theorem dksX11_letter_0 : cX11_letter.data.toList.drop 0 = dktX11_letter_0 := by decide +kernel
theorem dX11_letter_0 : decode cX11_letter 0 = .ok (.lload_n 0, 1) := dk_30 (dk_at dksX11_letter_0 0 rfl rfl)
theorem dX11_letter_1 : decode cX11_letter 1 = .ok (.bipush 8, 2) := dk_16 8 (dk_at dksX11_letter_0 1 rfl rfl)
theorem dX11_letter_3 : decode cX11_letter 3 = .ok (.iload_n 2, 1) := dk_28 (dk_at dksX11_letter_0 3 rfl rfl)
theorem dX11_letter_4 : decode cX11_letter 4 = .ok (.imul, 1) := dk_104 (dk_at dksX11_letter_0 4 rfl rfl)
theorem dX11_letter_5 : decode cX11_letter 5 = .ok (.lshr, 1) := dk_123 (dk_at dksX11_letter_0 5 rfl rfl)
theorem dX11_letter_6 : decode cX11_letter 6 = .ok (.l2i, 1) := dk_136 (dk_at dksX11_letter_0 6 rfl rfl)
theorem dX11_letter_7 : decode cX11_letter 7 = .ok (.sipush 255, 3) := dk_17 0 255 (dk_at dksX11_letter_0 7 rfl rfl)
theorem dX11_letter_10 : decode cX11_letter 10 = .ok (.iand, 1) := dk_126 (dk_at dksX11_letter_0 10 rfl rfl)
theorem dX11_letter_11 : decode cX11_letter 11 = .ok (.ireturn, 1) := dk_172 (dk_at dksX11_letter_0 11 rfl rfl)
abbrev cX11_askDirectory : ByteArray := prog_12_method_29_code
def yX11_askDirectory : MethodName := ⟨RX11, "askDirectory", "(I)I"⟩
def dkwX11_askDirectory_1 : List UInt8 := [160, 0, 7, 3, 167, 0, 5, 16, 250, 172]
abbrev dktX11_askDirectory_1 : List UInt8 := dkwX11_askDirectory_1 ++ []
def dkwX11_askDirectory_0 : List UInt8 := [42, 3, 27, 182, 0, 143, 61, 28, 2, 160, 0, 8, 16, 252, 167, 0, 19, 42, 180, 0, 26, 28, 46, 4]
abbrev dktX11_askDirectory_0 : List UInt8 := dkwX11_askDirectory_0 ++ dktX11_askDirectory_1
theorem dksX11_askDirectory_0 : cX11_askDirectory.data.toList.drop 0 = dktX11_askDirectory_0 := by decide +kernel
theorem dksX11_askDirectory_1 : cX11_askDirectory.data.toList.drop 24 = dktX11_askDirectory_1 := dk_seg dksX11_askDirectory_0 24 rfl rfl
theorem dX11_askDirectory_0 : decode cX11_askDirectory 0 = .ok (.aload_n 0, 1) := dk_42 (dk_at dksX11_askDirectory_0 0 rfl rfl)
theorem dX11_askDirectory_1 : decode cX11_askDirectory 1 = .ok (.iconst 0, 1) := dk_3 (dk_at dksX11_askDirectory_0 1 rfl rfl)
theorem dX11_askDirectory_2 : decode cX11_askDirectory 2 = .ok (.iload_n 1, 1) := dk_27 (dk_at dksX11_askDirectory_0 2 rfl rfl)
theorem dX11_askDirectory_3 : decode cX11_askDirectory 3 = .ok (.invokevirtual 143, 3) := dk_182 0 143 (dk_at dksX11_askDirectory_0 3 rfl rfl)
theorem dX11_askDirectory_6 : decode cX11_askDirectory 6 = .ok (.istore_n 2, 1) := dk_61 (dk_at dksX11_askDirectory_0 6 rfl rfl)
theorem dX11_askDirectory_7 : decode cX11_askDirectory 7 = .ok (.iload_n 2, 1) := dk_28 (dk_at dksX11_askDirectory_0 7 rfl rfl)
theorem dX11_askDirectory_8 : decode cX11_askDirectory 8 = .ok (.iconst (-1), 1) := dk_2 (dk_at dksX11_askDirectory_0 8 rfl rfl)
theorem dX11_askDirectory_9 : decode cX11_askDirectory 9 = .ok (.if_icmp .ne 8, 3) := dk_160 0 8 (dk_at dksX11_askDirectory_0 9 rfl rfl)
theorem dX11_askDirectory_12 : decode cX11_askDirectory 12 = .ok (.bipush (-4), 2) := dk_16 252 (dk_at dksX11_askDirectory_0 12 rfl rfl)
theorem dX11_askDirectory_14 : decode cX11_askDirectory 14 = .ok (.goto 19, 3) := dk_167 0 19 (dk_at dksX11_askDirectory_0 14 rfl rfl)
theorem dX11_askDirectory_17 : decode cX11_askDirectory 17 = .ok (.aload_n 0, 1) := dk_42 (dk_at dksX11_askDirectory_0 17 rfl rfl)
theorem dX11_askDirectory_18 : decode cX11_askDirectory 18 = .ok (.getfield 26, 3) := dk_180 0 26 (dk_at dksX11_askDirectory_0 18 rfl rfl)
theorem dX11_askDirectory_21 : decode cX11_askDirectory 21 = .ok (.iload_n 2, 1) := dk_28 (dk_at dksX11_askDirectory_0 21 rfl rfl)
theorem dX11_askDirectory_22 : decode cX11_askDirectory 22 = .ok (.iaload, 1) := dk_46 (dk_at dksX11_askDirectory_0 22 rfl rfl)
theorem dX11_askDirectory_23 : decode cX11_askDirectory 23 = .ok (.iconst 1, 1) := dk_4 (dk_at dksX11_askDirectory_0 23 rfl rfl)
theorem dX11_askDirectory_24 : decode cX11_askDirectory 24 = .ok (.if_icmp .ne 7, 3) := dk_160 0 7 (dk_at dksX11_askDirectory_1 0 rfl rfl)
theorem dX11_askDirectory_27 : decode cX11_askDirectory 27 = .ok (.iconst 0, 1) := dk_3 (dk_at dksX11_askDirectory_1 3 rfl rfl)
theorem dX11_askDirectory_28 : decode cX11_askDirectory 28 = .ok (.goto 5, 3) := dk_167 0 5 (dk_at dksX11_askDirectory_1 4 rfl rfl)
theorem dX11_askDirectory_31 : decode cX11_askDirectory 31 = .ok (.bipush (-6), 2) := dk_16 250 (dk_at dksX11_askDirectory_1 7 rfl rfl)
theorem dX11_askDirectory_33 : decode cX11_askDirectory 33 = .ok (.ireturn, 1) := dk_172 (dk_at dksX11_askDirectory_1 9 rfl rfl)
abbrev cX11_nodeOf : ByteArray := prog_12_method_4_code
def yX11_nodeOf : MethodName := ⟨RX11, "nodeOf", "(II)I"⟩
def dkwX11_nodeOf_2 : List UInt8 := [167, 255, 218, 29, 172]
abbrev dktX11_nodeOf_2 : List UInt8 := dkwX11_nodeOf_2 ++ []
def dkwX11_nodeOf_1 : List UInt8 := [162, 0, 27, 42, 180, 0, 23, 21, 4, 46, 28, 160, 0, 8, 21, 4, 167, 0, 4, 29, 62, 132, 4, 1]
abbrev dktX11_nodeOf_1 : List UInt8 := dkwX11_nodeOf_1 ++ dktX11_nodeOf_2
def dkwX11_nodeOf_0 : List UInt8 := [2, 62, 17, 2, 188, 27, 104, 54, 4, 21, 4, 17, 2, 188, 27, 104, 42, 180, 0, 20, 27, 46, 96]
abbrev dktX11_nodeOf_0 : List UInt8 := dkwX11_nodeOf_0 ++ dktX11_nodeOf_1
theorem dksX11_nodeOf_0 : cX11_nodeOf.data.toList.drop 0 = dktX11_nodeOf_0 := by decide +kernel
theorem dksX11_nodeOf_1 : cX11_nodeOf.data.toList.drop 23 = dktX11_nodeOf_1 := dk_seg dksX11_nodeOf_0 23 rfl rfl
theorem dksX11_nodeOf_2 : cX11_nodeOf.data.toList.drop 47 = dktX11_nodeOf_2 := dk_seg dksX11_nodeOf_1 24 rfl rfl
theorem dX11_nodeOf_0 : decode cX11_nodeOf 0 = .ok (.iconst (-1), 1) := dk_2 (dk_at dksX11_nodeOf_0 0 rfl rfl)
theorem dX11_nodeOf_1 : decode cX11_nodeOf 1 = .ok (.istore_n 3, 1) := dk_62 (dk_at dksX11_nodeOf_0 1 rfl rfl)
theorem dX11_nodeOf_2 : decode cX11_nodeOf 2 = .ok (.sipush 700, 3) := dk_17 2 188 (dk_at dksX11_nodeOf_0 2 rfl rfl)
theorem dX11_nodeOf_5 : decode cX11_nodeOf 5 = .ok (.iload_n 1, 1) := dk_27 (dk_at dksX11_nodeOf_0 5 rfl rfl)
theorem dX11_nodeOf_6 : decode cX11_nodeOf 6 = .ok (.imul, 1) := dk_104 (dk_at dksX11_nodeOf_0 6 rfl rfl)
theorem dX11_nodeOf_7 : decode cX11_nodeOf 7 = .ok (.istore 4, 2) := dk_54 4 (dk_at dksX11_nodeOf_0 7 rfl rfl)
theorem dX11_nodeOf_9 : decode cX11_nodeOf 9 = .ok (.iload 4, 2) := dk_21 4 (dk_at dksX11_nodeOf_0 9 rfl rfl)
theorem dX11_nodeOf_11 : decode cX11_nodeOf 11 = .ok (.sipush 700, 3) := dk_17 2 188 (dk_at dksX11_nodeOf_0 11 rfl rfl)
theorem dX11_nodeOf_14 : decode cX11_nodeOf 14 = .ok (.iload_n 1, 1) := dk_27 (dk_at dksX11_nodeOf_0 14 rfl rfl)
theorem dX11_nodeOf_15 : decode cX11_nodeOf 15 = .ok (.imul, 1) := dk_104 (dk_at dksX11_nodeOf_0 15 rfl rfl)
theorem dX11_nodeOf_16 : decode cX11_nodeOf 16 = .ok (.aload_n 0, 1) := dk_42 (dk_at dksX11_nodeOf_0 16 rfl rfl)
theorem dX11_nodeOf_17 : decode cX11_nodeOf 17 = .ok (.getfield 20, 3) := dk_180 0 20 (dk_at dksX11_nodeOf_0 17 rfl rfl)
theorem dX11_nodeOf_20 : decode cX11_nodeOf 20 = .ok (.iload_n 1, 1) := dk_27 (dk_at dksX11_nodeOf_0 20 rfl rfl)
theorem dX11_nodeOf_21 : decode cX11_nodeOf 21 = .ok (.iaload, 1) := dk_46 (dk_at dksX11_nodeOf_0 21 rfl rfl)
theorem dX11_nodeOf_22 : decode cX11_nodeOf 22 = .ok (.iadd, 1) := dk_96 (dk_at dksX11_nodeOf_0 22 rfl rfl)
theorem dX11_nodeOf_23 : decode cX11_nodeOf 23 = .ok (.if_icmp .ge 27, 3) := dk_162 0 27 (dk_at dksX11_nodeOf_1 0 rfl rfl)
theorem dX11_nodeOf_26 : decode cX11_nodeOf 26 = .ok (.aload_n 0, 1) := dk_42 (dk_at dksX11_nodeOf_1 3 rfl rfl)
theorem dX11_nodeOf_27 : decode cX11_nodeOf 27 = .ok (.getfield 23, 3) := dk_180 0 23 (dk_at dksX11_nodeOf_1 4 rfl rfl)
theorem dX11_nodeOf_30 : decode cX11_nodeOf 30 = .ok (.iload 4, 2) := dk_21 4 (dk_at dksX11_nodeOf_1 7 rfl rfl)
theorem dX11_nodeOf_32 : decode cX11_nodeOf 32 = .ok (.iaload, 1) := dk_46 (dk_at dksX11_nodeOf_1 9 rfl rfl)
theorem dX11_nodeOf_33 : decode cX11_nodeOf 33 = .ok (.iload_n 2, 1) := dk_28 (dk_at dksX11_nodeOf_1 10 rfl rfl)
theorem dX11_nodeOf_34 : decode cX11_nodeOf 34 = .ok (.if_icmp .ne 8, 3) := dk_160 0 8 (dk_at dksX11_nodeOf_1 11 rfl rfl)
theorem dX11_nodeOf_37 : decode cX11_nodeOf 37 = .ok (.iload 4, 2) := dk_21 4 (dk_at dksX11_nodeOf_1 14 rfl rfl)
theorem dX11_nodeOf_39 : decode cX11_nodeOf 39 = .ok (.goto 4, 3) := dk_167 0 4 (dk_at dksX11_nodeOf_1 16 rfl rfl)
theorem dX11_nodeOf_42 : decode cX11_nodeOf 42 = .ok (.iload_n 3, 1) := dk_29 (dk_at dksX11_nodeOf_1 19 rfl rfl)
theorem dX11_nodeOf_43 : decode cX11_nodeOf 43 = .ok (.istore_n 3, 1) := dk_62 (dk_at dksX11_nodeOf_1 20 rfl rfl)
theorem dX11_nodeOf_44 : decode cX11_nodeOf 44 = .ok (.iinc 4 1, 3) := dk_132 4 1 (dk_at dksX11_nodeOf_1 21 rfl rfl)
theorem dX11_nodeOf_47 : decode cX11_nodeOf 47 = .ok (.goto (-38), 3) := dk_167 255 218 (dk_at dksX11_nodeOf_2 0 rfl rfl)
theorem dX11_nodeOf_50 : decode cX11_nodeOf 50 = .ok (.iload_n 3, 1) := dk_29 (dk_at dksX11_nodeOf_2 3 rfl rfl)
theorem dX11_nodeOf_51 : decode cX11_nodeOf 51 = .ok (.ireturn, 1) := dk_172 (dk_at dksX11_nodeOf_2 4 rfl rfl)
abbrev cX11_entryOf : ByteArray := prog_12_method_9_code
def yX11_entryOf : MethodName := ⟨RX11, "entryOf", "(IIJ)I"⟩
def dkwX11_entryOf_2 : List UInt8 := [154, 0, 8, 21, 6, 167, 0, 5, 21, 5, 54, 5, 132, 6, 1, 167, 255, 204, 21, 5, 172]
abbrev dktX11_entryOf_2 : List UInt8 := dkwX11_entryOf_2 ++ []
def dkwX11_entryOf_1 : List UInt8 := [162, 0, 41, 42, 180, 0, 35, 21, 6, 46, 28, 160, 0, 20, 42, 180, 0, 38, 21, 6, 47, 33, 148]
abbrev dktX11_entryOf_1 : List UInt8 := dkwX11_entryOf_1 ++ dktX11_entryOf_2
def dkwX11_entryOf_0 : List UInt8 := [2, 54, 5, 17, 2, 188, 27, 104, 54, 6, 21, 6, 17, 2, 188, 27, 104, 42, 180, 0, 32, 27, 46, 96]
abbrev dktX11_entryOf_0 : List UInt8 := dkwX11_entryOf_0 ++ dktX11_entryOf_1
theorem dksX11_entryOf_0 : cX11_entryOf.data.toList.drop 0 = dktX11_entryOf_0 := by decide +kernel
theorem dksX11_entryOf_1 : cX11_entryOf.data.toList.drop 24 = dktX11_entryOf_1 := dk_seg dksX11_entryOf_0 24 rfl rfl
theorem dksX11_entryOf_2 : cX11_entryOf.data.toList.drop 47 = dktX11_entryOf_2 := dk_seg dksX11_entryOf_1 23 rfl rfl
theorem dX11_entryOf_0 : decode cX11_entryOf 0 = .ok (.iconst (-1), 1) := dk_2 (dk_at dksX11_entryOf_0 0 rfl rfl)
theorem dX11_entryOf_1 : decode cX11_entryOf 1 = .ok (.istore 5, 2) := dk_54 5 (dk_at dksX11_entryOf_0 1 rfl rfl)
theorem dX11_entryOf_3 : decode cX11_entryOf 3 = .ok (.sipush 700, 3) := dk_17 2 188 (dk_at dksX11_entryOf_0 3 rfl rfl)
theorem dX11_entryOf_6 : decode cX11_entryOf 6 = .ok (.iload_n 1, 1) := dk_27 (dk_at dksX11_entryOf_0 6 rfl rfl)
theorem dX11_entryOf_7 : decode cX11_entryOf 7 = .ok (.imul, 1) := dk_104 (dk_at dksX11_entryOf_0 7 rfl rfl)
theorem dX11_entryOf_8 : decode cX11_entryOf 8 = .ok (.istore 6, 2) := dk_54 6 (dk_at dksX11_entryOf_0 8 rfl rfl)
theorem dX11_entryOf_10 : decode cX11_entryOf 10 = .ok (.iload 6, 2) := dk_21 6 (dk_at dksX11_entryOf_0 10 rfl rfl)
theorem dX11_entryOf_12 : decode cX11_entryOf 12 = .ok (.sipush 700, 3) := dk_17 2 188 (dk_at dksX11_entryOf_0 12 rfl rfl)
theorem dX11_entryOf_15 : decode cX11_entryOf 15 = .ok (.iload_n 1, 1) := dk_27 (dk_at dksX11_entryOf_0 15 rfl rfl)
theorem dX11_entryOf_16 : decode cX11_entryOf 16 = .ok (.imul, 1) := dk_104 (dk_at dksX11_entryOf_0 16 rfl rfl)
theorem dX11_entryOf_17 : decode cX11_entryOf 17 = .ok (.aload_n 0, 1) := dk_42 (dk_at dksX11_entryOf_0 17 rfl rfl)
theorem dX11_entryOf_18 : decode cX11_entryOf 18 = .ok (.getfield 32, 3) := dk_180 0 32 (dk_at dksX11_entryOf_0 18 rfl rfl)
theorem dX11_entryOf_21 : decode cX11_entryOf 21 = .ok (.iload_n 1, 1) := dk_27 (dk_at dksX11_entryOf_0 21 rfl rfl)
theorem dX11_entryOf_22 : decode cX11_entryOf 22 = .ok (.iaload, 1) := dk_46 (dk_at dksX11_entryOf_0 22 rfl rfl)
theorem dX11_entryOf_23 : decode cX11_entryOf 23 = .ok (.iadd, 1) := dk_96 (dk_at dksX11_entryOf_0 23 rfl rfl)
theorem dX11_entryOf_24 : decode cX11_entryOf 24 = .ok (.if_icmp .ge 41, 3) := dk_162 0 41 (dk_at dksX11_entryOf_1 0 rfl rfl)
theorem dX11_entryOf_27 : decode cX11_entryOf 27 = .ok (.aload_n 0, 1) := dk_42 (dk_at dksX11_entryOf_1 3 rfl rfl)
theorem dX11_entryOf_28 : decode cX11_entryOf 28 = .ok (.getfield 35, 3) := dk_180 0 35 (dk_at dksX11_entryOf_1 4 rfl rfl)
theorem dX11_entryOf_31 : decode cX11_entryOf 31 = .ok (.iload 6, 2) := dk_21 6 (dk_at dksX11_entryOf_1 7 rfl rfl)
theorem dX11_entryOf_33 : decode cX11_entryOf 33 = .ok (.iaload, 1) := dk_46 (dk_at dksX11_entryOf_1 9 rfl rfl)
theorem dX11_entryOf_34 : decode cX11_entryOf 34 = .ok (.iload_n 2, 1) := dk_28 (dk_at dksX11_entryOf_1 10 rfl rfl)
theorem dX11_entryOf_35 : decode cX11_entryOf 35 = .ok (.if_icmp .ne 20, 3) := dk_160 0 20 (dk_at dksX11_entryOf_1 11 rfl rfl)
theorem dX11_entryOf_38 : decode cX11_entryOf 38 = .ok (.aload_n 0, 1) := dk_42 (dk_at dksX11_entryOf_1 14 rfl rfl)
theorem dX11_entryOf_39 : decode cX11_entryOf 39 = .ok (.getfield 38, 3) := dk_180 0 38 (dk_at dksX11_entryOf_1 15 rfl rfl)
theorem dX11_entryOf_42 : decode cX11_entryOf 42 = .ok (.iload 6, 2) := dk_21 6 (dk_at dksX11_entryOf_1 18 rfl rfl)
theorem dX11_entryOf_44 : decode cX11_entryOf 44 = .ok (.laload, 1) := dk_47 (dk_at dksX11_entryOf_1 20 rfl rfl)
theorem dX11_entryOf_45 : decode cX11_entryOf 45 = .ok (.lload_n 3, 1) := dk_33 (dk_at dksX11_entryOf_1 21 rfl rfl)
theorem dX11_entryOf_46 : decode cX11_entryOf 46 = .ok (.lcmp, 1) := dk_148 (dk_at dksX11_entryOf_1 22 rfl rfl)
theorem dX11_entryOf_47 : decode cX11_entryOf 47 = .ok (.ifCond .ne 8, 3) := dk_154 0 8 (dk_at dksX11_entryOf_2 0 rfl rfl)
theorem dX11_entryOf_50 : decode cX11_entryOf 50 = .ok (.iload 6, 2) := dk_21 6 (dk_at dksX11_entryOf_2 3 rfl rfl)
theorem dX11_entryOf_52 : decode cX11_entryOf 52 = .ok (.goto 5, 3) := dk_167 0 5 (dk_at dksX11_entryOf_2 5 rfl rfl)
theorem dX11_entryOf_55 : decode cX11_entryOf 55 = .ok (.iload 5, 2) := dk_21 5 (dk_at dksX11_entryOf_2 8 rfl rfl)
theorem dX11_entryOf_57 : decode cX11_entryOf 57 = .ok (.istore 5, 2) := dk_54 5 (dk_at dksX11_entryOf_2 10 rfl rfl)
theorem dX11_entryOf_59 : decode cX11_entryOf 59 = .ok (.iinc 6 1, 3) := dk_132 6 1 (dk_at dksX11_entryOf_2 12 rfl rfl)
theorem dX11_entryOf_62 : decode cX11_entryOf 62 = .ok (.goto (-52), 3) := dk_167 255 204 (dk_at dksX11_entryOf_2 15 rfl rfl)
theorem dX11_entryOf_65 : decode cX11_entryOf 65 = .ok (.iload 5, 2) := dk_21 5 (dk_at dksX11_entryOf_2 18 rfl rfl)
theorem dX11_entryOf_67 : decode cX11_entryOf 67 = .ok (.ireturn, 1) := dk_172 (dk_at dksX11_entryOf_2 20 rfl rfl)
abbrev cX11_live : ByteArray := prog_12_method_16_code
def yX11_live : MethodName := ⟨RX11, "live", "()I"⟩
def dkwX11_live_2 : List UInt8 := [184, 0, 154, 96, 96, 60, 132, 2, 1, 167, 255, 227, 27, 172]
abbrev dktX11_live_2 : List UInt8 := dkwX11_live_2 ++ []
def dkwX11_live_1 : List UInt8 := [60, 3, 61, 28, 42, 180, 0, 57, 3, 46, 162, 0, 25, 27, 17, 0, 224, 42, 180, 0, 66, 28, 46]
abbrev dktX11_live_1 : List UInt8 := dkwX11_live_1 ++ dktX11_live_2
def dkwX11_live_0 : List UInt8 := [17, 0, 240, 42, 180, 0, 20, 3, 46, 42, 180, 0, 32, 3, 46, 96, 42, 180, 0, 45, 3, 46, 96, 104]
abbrev dktX11_live_0 : List UInt8 := dkwX11_live_0 ++ dktX11_live_1
theorem dksX11_live_0 : cX11_live.data.toList.drop 0 = dktX11_live_0 := by decide +kernel
theorem dksX11_live_1 : cX11_live.data.toList.drop 24 = dktX11_live_1 := dk_seg dksX11_live_0 24 rfl rfl
theorem dksX11_live_2 : cX11_live.data.toList.drop 47 = dktX11_live_2 := dk_seg dksX11_live_1 23 rfl rfl
theorem dX11_live_0 : decode cX11_live 0 = .ok (.sipush 240, 3) := dk_17 0 240 (dk_at dksX11_live_0 0 rfl rfl)
theorem dX11_live_3 : decode cX11_live 3 = .ok (.aload_n 0, 1) := dk_42 (dk_at dksX11_live_0 3 rfl rfl)
theorem dX11_live_4 : decode cX11_live 4 = .ok (.getfield 20, 3) := dk_180 0 20 (dk_at dksX11_live_0 4 rfl rfl)
theorem dX11_live_7 : decode cX11_live 7 = .ok (.iconst 0, 1) := dk_3 (dk_at dksX11_live_0 7 rfl rfl)
theorem dX11_live_8 : decode cX11_live 8 = .ok (.iaload, 1) := dk_46 (dk_at dksX11_live_0 8 rfl rfl)
theorem dX11_live_9 : decode cX11_live 9 = .ok (.aload_n 0, 1) := dk_42 (dk_at dksX11_live_0 9 rfl rfl)
theorem dX11_live_10 : decode cX11_live 10 = .ok (.getfield 32, 3) := dk_180 0 32 (dk_at dksX11_live_0 10 rfl rfl)
theorem dX11_live_13 : decode cX11_live 13 = .ok (.iconst 0, 1) := dk_3 (dk_at dksX11_live_0 13 rfl rfl)
theorem dX11_live_14 : decode cX11_live 14 = .ok (.iaload, 1) := dk_46 (dk_at dksX11_live_0 14 rfl rfl)
theorem dX11_live_15 : decode cX11_live 15 = .ok (.iadd, 1) := dk_96 (dk_at dksX11_live_0 15 rfl rfl)
theorem dX11_live_16 : decode cX11_live 16 = .ok (.aload_n 0, 1) := dk_42 (dk_at dksX11_live_0 16 rfl rfl)
theorem dX11_live_17 : decode cX11_live 17 = .ok (.getfield 45, 3) := dk_180 0 45 (dk_at dksX11_live_0 17 rfl rfl)
theorem dX11_live_20 : decode cX11_live 20 = .ok (.iconst 0, 1) := dk_3 (dk_at dksX11_live_0 20 rfl rfl)
theorem dX11_live_21 : decode cX11_live 21 = .ok (.iaload, 1) := dk_46 (dk_at dksX11_live_0 21 rfl rfl)
theorem dX11_live_22 : decode cX11_live 22 = .ok (.iadd, 1) := dk_96 (dk_at dksX11_live_0 22 rfl rfl)
theorem dX11_live_23 : decode cX11_live 23 = .ok (.imul, 1) := dk_104 (dk_at dksX11_live_0 23 rfl rfl)
theorem dX11_live_24 : decode cX11_live 24 = .ok (.istore_n 1, 1) := dk_60 (dk_at dksX11_live_1 0 rfl rfl)
theorem dX11_live_25 : decode cX11_live 25 = .ok (.iconst 0, 1) := dk_3 (dk_at dksX11_live_1 1 rfl rfl)
theorem dX11_live_26 : decode cX11_live 26 = .ok (.istore_n 2, 1) := dk_61 (dk_at dksX11_live_1 2 rfl rfl)
theorem dX11_live_27 : decode cX11_live 27 = .ok (.iload_n 2, 1) := dk_28 (dk_at dksX11_live_1 3 rfl rfl)
theorem dX11_live_28 : decode cX11_live 28 = .ok (.aload_n 0, 1) := dk_42 (dk_at dksX11_live_1 4 rfl rfl)
theorem dX11_live_29 : decode cX11_live 29 = .ok (.getfield 57, 3) := dk_180 0 57 (dk_at dksX11_live_1 5 rfl rfl)
theorem dX11_live_32 : decode cX11_live 32 = .ok (.iconst 0, 1) := dk_3 (dk_at dksX11_live_1 8 rfl rfl)
theorem dX11_live_33 : decode cX11_live 33 = .ok (.iaload, 1) := dk_46 (dk_at dksX11_live_1 9 rfl rfl)
theorem dX11_live_34 : decode cX11_live 34 = .ok (.if_icmp .ge 25, 3) := dk_162 0 25 (dk_at dksX11_live_1 10 rfl rfl)
theorem dX11_live_37 : decode cX11_live 37 = .ok (.iload_n 1, 1) := dk_27 (dk_at dksX11_live_1 13 rfl rfl)
theorem dX11_live_38 : decode cX11_live 38 = .ok (.sipush 224, 3) := dk_17 0 224 (dk_at dksX11_live_1 14 rfl rfl)
theorem dX11_live_41 : decode cX11_live 41 = .ok (.aload_n 0, 1) := dk_42 (dk_at dksX11_live_1 17 rfl rfl)
theorem dX11_live_42 : decode cX11_live 42 = .ok (.getfield 66, 3) := dk_180 0 66 (dk_at dksX11_live_1 18 rfl rfl)
theorem dX11_live_45 : decode cX11_live 45 = .ok (.iload_n 2, 1) := dk_28 (dk_at dksX11_live_1 21 rfl rfl)
theorem dX11_live_46 : decode cX11_live 46 = .ok (.iaload, 1) := dk_46 (dk_at dksX11_live_1 22 rfl rfl)
theorem dX11_live_47 : decode cX11_live 47 = .ok (.invokestatic 154, 3) := dk_184 0 154 (dk_at dksX11_live_2 0 rfl rfl)
theorem dX11_live_50 : decode cX11_live 50 = .ok (.iadd, 1) := dk_96 (dk_at dksX11_live_2 3 rfl rfl)
theorem dX11_live_51 : decode cX11_live 51 = .ok (.iadd, 1) := dk_96 (dk_at dksX11_live_2 4 rfl rfl)
theorem dX11_live_52 : decode cX11_live 52 = .ok (.istore_n 1, 1) := dk_60 (dk_at dksX11_live_2 5 rfl rfl)
theorem dX11_live_53 : decode cX11_live 53 = .ok (.iinc 2 1, 3) := dk_132 2 1 (dk_at dksX11_live_2 6 rfl rfl)
theorem dX11_live_56 : decode cX11_live 56 = .ok (.goto (-29), 3) := dk_167 255 227 (dk_at dksX11_live_2 9 rfl rfl)
theorem dX11_live_59 : decode cX11_live 59 = .ok (.iload_n 1, 1) := dk_27 (dk_at dksX11_live_2 12 rfl rfl)
theorem dX11_live_60 : decode cX11_live 60 = .ok (.ireturn, 1) := dk_172 (dk_at dksX11_live_2 13 rfl rfl)
abbrev cX11_eights : ByteArray := prog_12_method_15_code
def yX11_eights : MethodName := ⟨RX11, "eights", "(I)I"⟩
def dkwX11_eights_0 : List UInt8 := [26, 16, 7, 96, 16, 8, 108, 16, 8, 104, 172]
abbrev dktX11_eights_0 : List UInt8 := dkwX11_eights_0 ++ []
theorem dksX11_eights_0 : cX11_eights.data.toList.drop 0 = dktX11_eights_0 := by decide +kernel
theorem dX11_eights_0 : decode cX11_eights 0 = .ok (.iload_n 0, 1) := dk_26 (dk_at dksX11_eights_0 0 rfl rfl)
theorem dX11_eights_1 : decode cX11_eights 1 = .ok (.bipush 7, 2) := dk_16 7 (dk_at dksX11_eights_0 1 rfl rfl)
theorem dX11_eights_3 : decode cX11_eights 3 = .ok (.iadd, 1) := dk_96 (dk_at dksX11_eights_0 3 rfl rfl)
theorem dX11_eights_4 : decode cX11_eights 4 = .ok (.bipush 8, 2) := dk_16 8 (dk_at dksX11_eights_0 4 rfl rfl)
theorem dX11_eights_6 : decode cX11_eights 6 = .ok (.idiv, 1) := dk_108 (dk_at dksX11_eights_0 6 rfl rfl)
theorem dX11_eights_7 : decode cX11_eights 7 = .ok (.bipush 8, 2) := dk_16 8 (dk_at dksX11_eights_0 7 rfl rfl)
theorem dX11_eights_9 : decode cX11_eights 9 = .ok (.imul, 1) := dk_104 (dk_at dksX11_eights_0 9 rfl rfl)
theorem dX11_eights_10 : decode cX11_eights 10 = .ok (.ireturn, 1) := dk_172 (dk_at dksX11_eights_0 10 rfl rfl)
abbrev cX11_group : ByteArray := prog_12_method_23_code
def yX11_group : MethodName := ⟨RX11, "group", "(III)I"⟩
def dkwX11_group_1 : List UInt8 := [42, 180, 0, 195, 29, 79, 42, 180, 0, 92, 42, 180, 0, 195, 3, 84, 42, 180, 0, 195, 172]
abbrev dktX11_group_1 : List UInt8 := dkwX11_group_1 ++ []
def dkwX11_group_0 : List UInt8 := [42, 180, 0, 77, 42, 180, 0, 195, 27, 79, 42, 180, 0, 80, 42, 180, 0, 195, 28, 79, 42, 180, 0, 83]
abbrev dktX11_group_0 : List UInt8 := dkwX11_group_0 ++ dktX11_group_1
theorem dksX11_group_0 : cX11_group.data.toList.drop 0 = dktX11_group_0 := by decide +kernel
theorem dksX11_group_1 : cX11_group.data.toList.drop 24 = dktX11_group_1 := dk_seg dksX11_group_0 24 rfl rfl
theorem dX11_group_0 : decode cX11_group 0 = .ok (.aload_n 0, 1) := dk_42 (dk_at dksX11_group_0 0 rfl rfl)
theorem dX11_group_1 : decode cX11_group 1 = .ok (.getfield 77, 3) := dk_180 0 77 (dk_at dksX11_group_0 1 rfl rfl)
theorem dX11_group_4 : decode cX11_group 4 = .ok (.aload_n 0, 1) := dk_42 (dk_at dksX11_group_0 4 rfl rfl)
theorem dX11_group_5 : decode cX11_group 5 = .ok (.getfield 195, 3) := dk_180 0 195 (dk_at dksX11_group_0 5 rfl rfl)
theorem dX11_group_8 : decode cX11_group 8 = .ok (.iload_n 1, 1) := dk_27 (dk_at dksX11_group_0 8 rfl rfl)
theorem dX11_group_9 : decode cX11_group 9 = .ok (.iastore, 1) := dk_79 (dk_at dksX11_group_0 9 rfl rfl)
theorem dX11_group_10 : decode cX11_group 10 = .ok (.aload_n 0, 1) := dk_42 (dk_at dksX11_group_0 10 rfl rfl)
theorem dX11_group_11 : decode cX11_group 11 = .ok (.getfield 80, 3) := dk_180 0 80 (dk_at dksX11_group_0 11 rfl rfl)
theorem dX11_group_14 : decode cX11_group 14 = .ok (.aload_n 0, 1) := dk_42 (dk_at dksX11_group_0 14 rfl rfl)
theorem dX11_group_15 : decode cX11_group 15 = .ok (.getfield 195, 3) := dk_180 0 195 (dk_at dksX11_group_0 15 rfl rfl)
theorem dX11_group_18 : decode cX11_group 18 = .ok (.iload_n 2, 1) := dk_28 (dk_at dksX11_group_0 18 rfl rfl)
theorem dX11_group_19 : decode cX11_group 19 = .ok (.iastore, 1) := dk_79 (dk_at dksX11_group_0 19 rfl rfl)
theorem dX11_group_20 : decode cX11_group 20 = .ok (.aload_n 0, 1) := dk_42 (dk_at dksX11_group_0 20 rfl rfl)
theorem dX11_group_21 : decode cX11_group 21 = .ok (.getfield 83, 3) := dk_180 0 83 (dk_at dksX11_group_0 21 rfl rfl)
theorem dX11_group_24 : decode cX11_group 24 = .ok (.aload_n 0, 1) := dk_42 (dk_at dksX11_group_1 0 rfl rfl)
theorem dX11_group_25 : decode cX11_group 25 = .ok (.getfield 195, 3) := dk_180 0 195 (dk_at dksX11_group_1 1 rfl rfl)
theorem dX11_group_28 : decode cX11_group 28 = .ok (.iload_n 3, 1) := dk_29 (dk_at dksX11_group_1 4 rfl rfl)
theorem dX11_group_29 : decode cX11_group 29 = .ok (.iastore, 1) := dk_79 (dk_at dksX11_group_1 5 rfl rfl)
theorem dX11_group_30 : decode cX11_group 30 = .ok (.aload_n 0, 1) := dk_42 (dk_at dksX11_group_1 6 rfl rfl)
theorem dX11_group_31 : decode cX11_group 31 = .ok (.getfield 92, 3) := dk_180 0 92 (dk_at dksX11_group_1 7 rfl rfl)
theorem dX11_group_34 : decode cX11_group 34 = .ok (.aload_n 0, 1) := dk_42 (dk_at dksX11_group_1 10 rfl rfl)
theorem dX11_group_35 : decode cX11_group 35 = .ok (.getfield 195, 3) := dk_180 0 195 (dk_at dksX11_group_1 11 rfl rfl)
theorem dX11_group_38 : decode cX11_group 38 = .ok (.iconst 0, 1) := dk_3 (dk_at dksX11_group_1 14 rfl rfl)
theorem dX11_group_39 : decode cX11_group 39 = .ok (.bastore, 1) := dk_84 (dk_at dksX11_group_1 15 rfl rfl)
theorem dX11_group_40 : decode cX11_group 40 = .ok (.aload_n 0, 1) := dk_42 (dk_at dksX11_group_1 16 rfl rfl)
theorem dX11_group_41 : decode cX11_group 41 = .ok (.getfield 195, 3) := dk_180 0 195 (dk_at dksX11_group_1 17 rfl rfl)
theorem dX11_group_44 : decode cX11_group 44 = .ok (.ireturn, 1) := dk_172 (dk_at dksX11_group_1 20 rfl rfl)
abbrev cX11_hand : ByteArray := prog_12_method_25_code
def yX11_hand : MethodName := ⟨RX11, "hand", "(I)V"⟩
def dkwX11_hand_5 : List UInt8 := [104, 163, 0, 9, 132, 4, 1, 167, 255, 222, 42, 21, 4, 182, 0, 201, 177]
abbrev dktX11_hand_5 : List UInt8 := dkwX11_hand_5 ++ []
def dkwX11_hand_4 : List UInt8 := [180, 0, 195, 162, 0, 31, 42, 180, 0, 74, 21, 4, 46, 42, 180, 0, 136, 17, 0, 128, 108, 17, 0, 128]
abbrev dktX11_hand_4 : List UInt8 := dkwX11_hand_4 ++ dktX11_hand_5
def dkwX11_hand_3 : List UInt8 := [79, 42, 89, 180, 0, 195, 4, 96, 181, 0, 195, 42, 29, 182, 0, 201, 3, 54, 4, 21, 4, 42]
abbrev dktX11_hand_3 : List UInt8 := dkwX11_hand_3 ++ dktX11_hand_4
def dkwX11_hand_2 : List UInt8 := [167, 0, 9, 42, 180, 0, 136, 27, 96, 181, 0, 136, 42, 180, 0, 74, 42, 180, 0, 195, 42, 180, 0, 136]
abbrev dktX11_hand_2 : List UInt8 := dkwX11_hand_2 ++ dktX11_hand_3
def dkwX11_hand_1 : List UInt8 := [167, 0, 4, 3, 61, 28, 153, 0, 10, 42, 180, 0, 195, 167, 0, 4, 3, 62, 42, 28, 153, 0, 7, 27]
abbrev dktX11_hand_1 : List UInt8 := dkwX11_hand_1 ++ dktX11_hand_2
def dkwX11_hand_0 : List UInt8 := [42, 3, 42, 180, 0, 195, 182, 0, 198, 42, 180, 0, 136, 27, 96, 42, 180, 0, 126, 164, 0, 7, 4]
abbrev dktX11_hand_0 : List UInt8 := dkwX11_hand_0 ++ dktX11_hand_1
theorem dksX11_hand_0 : cX11_hand.data.toList.drop 0 = dktX11_hand_0 := by decide +kernel
theorem dksX11_hand_1 : cX11_hand.data.toList.drop 23 = dktX11_hand_1 := dk_seg dksX11_hand_0 23 rfl rfl
theorem dksX11_hand_2 : cX11_hand.data.toList.drop 47 = dktX11_hand_2 := dk_seg dksX11_hand_1 24 rfl rfl
theorem dksX11_hand_3 : cX11_hand.data.toList.drop 71 = dktX11_hand_3 := dk_seg dksX11_hand_2 24 rfl rfl
theorem dksX11_hand_4 : cX11_hand.data.toList.drop 93 = dktX11_hand_4 := dk_seg dksX11_hand_3 22 rfl rfl
theorem dksX11_hand_5 : cX11_hand.data.toList.drop 117 = dktX11_hand_5 := dk_seg dksX11_hand_4 24 rfl rfl
theorem dX11_hand_0 : decode cX11_hand 0 = .ok (.aload_n 0, 1) := dk_42 (dk_at dksX11_hand_0 0 rfl rfl)
theorem dX11_hand_1 : decode cX11_hand 1 = .ok (.iconst 0, 1) := dk_3 (dk_at dksX11_hand_0 1 rfl rfl)
theorem dX11_hand_2 : decode cX11_hand 2 = .ok (.aload_n 0, 1) := dk_42 (dk_at dksX11_hand_0 2 rfl rfl)
theorem dX11_hand_3 : decode cX11_hand 3 = .ok (.getfield 195, 3) := dk_180 0 195 (dk_at dksX11_hand_0 3 rfl rfl)
theorem dX11_hand_6 : decode cX11_hand 6 = .ok (.invokevirtual 198, 3) := dk_182 0 198 (dk_at dksX11_hand_0 6 rfl rfl)
theorem dX11_hand_9 : decode cX11_hand 9 = .ok (.aload_n 0, 1) := dk_42 (dk_at dksX11_hand_0 9 rfl rfl)
theorem dX11_hand_10 : decode cX11_hand 10 = .ok (.getfield 136, 3) := dk_180 0 136 (dk_at dksX11_hand_0 10 rfl rfl)
theorem dX11_hand_13 : decode cX11_hand 13 = .ok (.iload_n 1, 1) := dk_27 (dk_at dksX11_hand_0 13 rfl rfl)
theorem dX11_hand_14 : decode cX11_hand 14 = .ok (.iadd, 1) := dk_96 (dk_at dksX11_hand_0 14 rfl rfl)
theorem dX11_hand_15 : decode cX11_hand 15 = .ok (.aload_n 0, 1) := dk_42 (dk_at dksX11_hand_0 15 rfl rfl)
theorem dX11_hand_16 : decode cX11_hand 16 = .ok (.getfield 126, 3) := dk_180 0 126 (dk_at dksX11_hand_0 16 rfl rfl)
theorem dX11_hand_19 : decode cX11_hand 19 = .ok (.if_icmp .le 7, 3) := dk_164 0 7 (dk_at dksX11_hand_0 19 rfl rfl)
theorem dX11_hand_22 : decode cX11_hand 22 = .ok (.iconst 1, 1) := dk_4 (dk_at dksX11_hand_0 22 rfl rfl)
theorem dX11_hand_23 : decode cX11_hand 23 = .ok (.goto 4, 3) := dk_167 0 4 (dk_at dksX11_hand_1 0 rfl rfl)
theorem dX11_hand_26 : decode cX11_hand 26 = .ok (.iconst 0, 1) := dk_3 (dk_at dksX11_hand_1 3 rfl rfl)
theorem dX11_hand_27 : decode cX11_hand 27 = .ok (.istore_n 2, 1) := dk_61 (dk_at dksX11_hand_1 4 rfl rfl)
theorem dX11_hand_28 : decode cX11_hand 28 = .ok (.iload_n 2, 1) := dk_28 (dk_at dksX11_hand_1 5 rfl rfl)
theorem dX11_hand_29 : decode cX11_hand 29 = .ok (.ifCond .eq 10, 3) := dk_153 0 10 (dk_at dksX11_hand_1 6 rfl rfl)
theorem dX11_hand_32 : decode cX11_hand 32 = .ok (.aload_n 0, 1) := dk_42 (dk_at dksX11_hand_1 9 rfl rfl)
theorem dX11_hand_33 : decode cX11_hand 33 = .ok (.getfield 195, 3) := dk_180 0 195 (dk_at dksX11_hand_1 10 rfl rfl)
theorem dX11_hand_36 : decode cX11_hand 36 = .ok (.goto 4, 3) := dk_167 0 4 (dk_at dksX11_hand_1 13 rfl rfl)
theorem dX11_hand_39 : decode cX11_hand 39 = .ok (.iconst 0, 1) := dk_3 (dk_at dksX11_hand_1 16 rfl rfl)
theorem dX11_hand_40 : decode cX11_hand 40 = .ok (.istore_n 3, 1) := dk_62 (dk_at dksX11_hand_1 17 rfl rfl)
theorem dX11_hand_41 : decode cX11_hand 41 = .ok (.aload_n 0, 1) := dk_42 (dk_at dksX11_hand_1 18 rfl rfl)
theorem dX11_hand_42 : decode cX11_hand 42 = .ok (.iload_n 2, 1) := dk_28 (dk_at dksX11_hand_1 19 rfl rfl)
theorem dX11_hand_43 : decode cX11_hand 43 = .ok (.ifCond .eq 7, 3) := dk_153 0 7 (dk_at dksX11_hand_1 20 rfl rfl)
theorem dX11_hand_46 : decode cX11_hand 46 = .ok (.iload_n 1, 1) := dk_27 (dk_at dksX11_hand_1 23 rfl rfl)
theorem dX11_hand_47 : decode cX11_hand 47 = .ok (.goto 9, 3) := dk_167 0 9 (dk_at dksX11_hand_2 0 rfl rfl)
theorem dX11_hand_50 : decode cX11_hand 50 = .ok (.aload_n 0, 1) := dk_42 (dk_at dksX11_hand_2 3 rfl rfl)
theorem dX11_hand_51 : decode cX11_hand 51 = .ok (.getfield 136, 3) := dk_180 0 136 (dk_at dksX11_hand_2 4 rfl rfl)
theorem dX11_hand_54 : decode cX11_hand 54 = .ok (.iload_n 1, 1) := dk_27 (dk_at dksX11_hand_2 7 rfl rfl)
theorem dX11_hand_55 : decode cX11_hand 55 = .ok (.iadd, 1) := dk_96 (dk_at dksX11_hand_2 8 rfl rfl)
theorem dX11_hand_56 : decode cX11_hand 56 = .ok (.putfield 136, 3) := dk_181 0 136 (dk_at dksX11_hand_2 9 rfl rfl)
theorem dX11_hand_59 : decode cX11_hand 59 = .ok (.aload_n 0, 1) := dk_42 (dk_at dksX11_hand_2 12 rfl rfl)
theorem dX11_hand_60 : decode cX11_hand 60 = .ok (.getfield 74, 3) := dk_180 0 74 (dk_at dksX11_hand_2 13 rfl rfl)
theorem dX11_hand_63 : decode cX11_hand 63 = .ok (.aload_n 0, 1) := dk_42 (dk_at dksX11_hand_2 16 rfl rfl)
theorem dX11_hand_64 : decode cX11_hand 64 = .ok (.getfield 195, 3) := dk_180 0 195 (dk_at dksX11_hand_2 17 rfl rfl)
theorem dX11_hand_67 : decode cX11_hand 67 = .ok (.aload_n 0, 1) := dk_42 (dk_at dksX11_hand_2 20 rfl rfl)
theorem dX11_hand_68 : decode cX11_hand 68 = .ok (.getfield 136, 3) := dk_180 0 136 (dk_at dksX11_hand_2 21 rfl rfl)
theorem dX11_hand_71 : decode cX11_hand 71 = .ok (.iastore, 1) := dk_79 (dk_at dksX11_hand_3 0 rfl rfl)
theorem dX11_hand_72 : decode cX11_hand 72 = .ok (.aload_n 0, 1) := dk_42 (dk_at dksX11_hand_3 1 rfl rfl)
theorem dX11_hand_73 : decode cX11_hand 73 = .ok (.dup, 1) := dk_89 (dk_at dksX11_hand_3 2 rfl rfl)
theorem dX11_hand_74 : decode cX11_hand 74 = .ok (.getfield 195, 3) := dk_180 0 195 (dk_at dksX11_hand_3 3 rfl rfl)
theorem dX11_hand_77 : decode cX11_hand 77 = .ok (.iconst 1, 1) := dk_4 (dk_at dksX11_hand_3 6 rfl rfl)
theorem dX11_hand_78 : decode cX11_hand 78 = .ok (.iadd, 1) := dk_96 (dk_at dksX11_hand_3 7 rfl rfl)
theorem dX11_hand_79 : decode cX11_hand 79 = .ok (.putfield 195, 3) := dk_181 0 195 (dk_at dksX11_hand_3 8 rfl rfl)
theorem dX11_hand_82 : decode cX11_hand 82 = .ok (.aload_n 0, 1) := dk_42 (dk_at dksX11_hand_3 11 rfl rfl)
theorem dX11_hand_83 : decode cX11_hand 83 = .ok (.iload_n 3, 1) := dk_29 (dk_at dksX11_hand_3 12 rfl rfl)
theorem dX11_hand_84 : decode cX11_hand 84 = .ok (.invokevirtual 201, 3) := dk_182 0 201 (dk_at dksX11_hand_3 13 rfl rfl)
theorem dX11_hand_87 : decode cX11_hand 87 = .ok (.iconst 0, 1) := dk_3 (dk_at dksX11_hand_3 16 rfl rfl)
theorem dX11_hand_88 : decode cX11_hand 88 = .ok (.istore 4, 2) := dk_54 4 (dk_at dksX11_hand_3 17 rfl rfl)
theorem dX11_hand_90 : decode cX11_hand 90 = .ok (.iload 4, 2) := dk_21 4 (dk_at dksX11_hand_3 19 rfl rfl)
theorem dX11_hand_92 : decode cX11_hand 92 = .ok (.aload_n 0, 1) := dk_42 (dk_at dksX11_hand_3 21 rfl rfl)
theorem dX11_hand_93 : decode cX11_hand 93 = .ok (.getfield 195, 3) := dk_180 0 195 (dk_at dksX11_hand_4 0 rfl rfl)
theorem dX11_hand_96 : decode cX11_hand 96 = .ok (.if_icmp .ge 31, 3) := dk_162 0 31 (dk_at dksX11_hand_4 3 rfl rfl)
theorem dX11_hand_99 : decode cX11_hand 99 = .ok (.aload_n 0, 1) := dk_42 (dk_at dksX11_hand_4 6 rfl rfl)
theorem dX11_hand_100 : decode cX11_hand 100 = .ok (.getfield 74, 3) := dk_180 0 74 (dk_at dksX11_hand_4 7 rfl rfl)
theorem dX11_hand_103 : decode cX11_hand 103 = .ok (.iload 4, 2) := dk_21 4 (dk_at dksX11_hand_4 10 rfl rfl)
theorem dX11_hand_105 : decode cX11_hand 105 = .ok (.iaload, 1) := dk_46 (dk_at dksX11_hand_4 12 rfl rfl)
theorem dX11_hand_106 : decode cX11_hand 106 = .ok (.aload_n 0, 1) := dk_42 (dk_at dksX11_hand_4 13 rfl rfl)
theorem dX11_hand_107 : decode cX11_hand 107 = .ok (.getfield 136, 3) := dk_180 0 136 (dk_at dksX11_hand_4 14 rfl rfl)
theorem dX11_hand_110 : decode cX11_hand 110 = .ok (.sipush 128, 3) := dk_17 0 128 (dk_at dksX11_hand_4 17 rfl rfl)
theorem dX11_hand_113 : decode cX11_hand 113 = .ok (.idiv, 1) := dk_108 (dk_at dksX11_hand_4 20 rfl rfl)
theorem dX11_hand_114 : decode cX11_hand 114 = .ok (.sipush 128, 3) := dk_17 0 128 (dk_at dksX11_hand_4 21 rfl rfl)
theorem dX11_hand_117 : decode cX11_hand 117 = .ok (.imul, 1) := dk_104 (dk_at dksX11_hand_5 0 rfl rfl)
theorem dX11_hand_118 : decode cX11_hand 118 = .ok (.if_icmp .gt 9, 3) := dk_163 0 9 (dk_at dksX11_hand_5 1 rfl rfl)
theorem dX11_hand_121 : decode cX11_hand 121 = .ok (.iinc 4 1, 3) := dk_132 4 1 (dk_at dksX11_hand_5 4 rfl rfl)
theorem dX11_hand_124 : decode cX11_hand 124 = .ok (.goto (-34), 3) := dk_167 255 222 (dk_at dksX11_hand_5 7 rfl rfl)
theorem dX11_hand_127 : decode cX11_hand 127 = .ok (.aload_n 0, 1) := dk_42 (dk_at dksX11_hand_5 10 rfl rfl)
theorem dX11_hand_128 : decode cX11_hand 128 = .ok (.iload 4, 2) := dk_21 4 (dk_at dksX11_hand_5 11 rfl rfl)
theorem dX11_hand_130 : decode cX11_hand 130 = .ok (.invokevirtual 201, 3) := dk_182 0 201 (dk_at dksX11_hand_5 13 rfl rfl)
theorem dX11_hand_133 : decode cX11_hand 133 = .ok (.return_, 1) := dk_177 (dk_at dksX11_hand_5 16 rfl rfl)
abbrev cX11_does : ByteArray := prog_12_method_22_code
def yX11_does : MethodName := ⟨RX11, "does", "(II)V"⟩
def dkwX11_does_13 : List UInt8 := [180, 0, 80, 28, 46, 182, 0, 169, 177]
abbrev dktX11_does_13 : List UInt8 := dkwX11_does_13 ++ []
def dkwX11_does_12 : List UInt8 := [180, 0, 80, 28, 46, 42, 180, 0, 96, 28, 47, 182, 0, 172, 182, 0, 151, 167, 0, 14, 42, 27, 42]
abbrev dktX11_does_12 : List UInt8 := dkwX11_does_12 ++ dktX11_does_13
def dkwX11_does_11 : List UInt8 := [27, 28, 182, 0, 189, 167, 0, 48, 42, 27, 28, 182, 0, 192, 167, 0, 39, 42, 27, 42, 27, 42]
abbrev dktX11_does_11 : List UInt8 := dkwX11_does_11 ++ dktX11_does_12
def dkwX11_does_10 : List UInt8 := [167, 0, 77, 42, 27, 42, 180, 0, 80, 28, 46, 42, 180, 0, 83, 28, 46, 182, 0, 186, 167, 0, 57, 42]
abbrev dktX11_does_10 : List UInt8 := dkwX11_does_10 ++ dktX11_does_11
def dkwX11_does_9 : List UInt8 := [28, 46, 42, 180, 0, 83, 28, 46, 42, 180, 0, 86, 28, 46, 42, 180, 0, 89, 28, 46, 28, 182, 0, 179]
abbrev dktX11_does_9 : List UInt8 := dkwX11_does_9 ++ dktX11_does_10
def dkwX11_does_8 : List UInt8 := [27, 21, 4, 182, 0, 169, 167, 0, 119, 42, 27, 28, 182, 0, 183, 167, 0, 110, 42, 27, 42, 180, 0, 80]
abbrev dktX11_does_8 : List UInt8 := dkwX11_does_8 ++ dktX11_does_9
def dkwX11_does_7 : List UInt8 := [42, 180, 0, 42, 29, 46, 54, 4, 42, 27, 29, 182, 0, 166, 42, 180, 0, 92, 28, 51, 153, 0, 129, 42]
abbrev dktX11_does_7 : List UInt8 := dkwX11_does_7 ++ dktX11_does_8
def dkwX11_does_6 : List UInt8 := [182, 0, 175, 167, 0, 170, 42, 27, 42, 180, 0, 80, 28, 46, 42, 180, 0, 96, 28, 47, 182, 0, 162, 62]
abbrev dktX11_does_6 : List UInt8 := dkwX11_does_6 ++ dktX11_does_7
def dkwX11_does_5 : List UInt8 := [167, 0, 196, 42, 27, 42, 180, 0, 80, 28, 46, 42, 180, 0, 96, 28, 47, 42, 180, 0, 83, 28, 46]
abbrev dktX11_does_5 : List UInt8 := dkwX11_does_5 ++ dktX11_does_6
def dkwX11_does_4 : List UInt8 := [180, 0, 17, 27, 46, 4, 100, 3, 42, 180, 0, 86, 28, 46, 42, 180, 0, 86, 28, 46, 28, 182, 0, 179]
abbrev dktX11_does_4 : List UInt8 := dkwX11_does_4 ++ dktX11_does_5
def dkwX11_does_3 : List UInt8 := [27, 42, 180, 0, 83, 28, 46, 182, 0, 139, 42, 180, 0, 83, 28, 46, 6, 160, 0, 226, 42, 27, 42]
abbrev dktX11_does_3 : List UInt8 := dkwX11_does_3 ++ dktX11_does_4
def dkwX11_does_2 : List UInt8 := [42, 27, 42, 180, 0, 80, 28, 46, 42, 180, 0, 96, 28, 47, 42, 180, 0, 17, 27, 46, 182, 0, 175, 42]
abbrev dktX11_does_2 : List UInt8 := dkwX11_does_2 ++ dktX11_does_3
def dkwX11_does_1 : List UInt8 := [170, 0, 0, 0, 1, 58, 0, 0, 0, 1, 0, 0, 0, 11, 0, 0, 0, 58, 0, 0, 0, 132, 0, 0, 0, 158, 0, 0, 0, 158, 0, 0, 0, 209, 0, 0, 0, 218, 0, 0, 0, 251, 0, 0, 1, 58, 0, 0, 1, 15, 0, 0, 1, 24, 0, 0, 1, 33]
abbrev dktX11_does_1 : List UInt8 := dkwX11_does_1 ++ dktX11_does_2
def dkwX11_does_0 : List UInt8 := [42, 180, 0, 77, 28, 46]
abbrev dktX11_does_0 : List UInt8 := dkwX11_does_0 ++ dktX11_does_1
theorem dksX11_does_0 : cX11_does.data.toList.drop 0 = dktX11_does_0 := by decide +kernel
theorem dksX11_does_1 : cX11_does.data.toList.drop 6 = dktX11_does_1 := dk_seg dksX11_does_0 6 rfl rfl
theorem dksX11_does_2 : cX11_does.data.toList.drop 64 = dktX11_does_2 := dk_seg dksX11_does_1 58 rfl rfl
theorem dksX11_does_3 : cX11_does.data.toList.drop 88 = dktX11_does_3 := dk_seg dksX11_does_2 24 rfl rfl
theorem dksX11_does_4 : cX11_does.data.toList.drop 111 = dktX11_does_4 := dk_seg dksX11_does_3 23 rfl rfl
theorem dksX11_does_5 : cX11_does.data.toList.drop 135 = dktX11_does_5 := dk_seg dksX11_does_4 24 rfl rfl
theorem dksX11_does_6 : cX11_does.data.toList.drop 158 = dktX11_does_6 := dk_seg dksX11_does_5 23 rfl rfl
theorem dksX11_does_7 : cX11_does.data.toList.drop 182 = dktX11_does_7 := dk_seg dksX11_does_6 24 rfl rfl
theorem dksX11_does_8 : cX11_does.data.toList.drop 206 = dktX11_does_8 := dk_seg dksX11_does_7 24 rfl rfl
theorem dksX11_does_9 : cX11_does.data.toList.drop 230 = dktX11_does_9 := dk_seg dksX11_does_8 24 rfl rfl
theorem dksX11_does_10 : cX11_does.data.toList.drop 254 = dktX11_does_10 := dk_seg dksX11_does_9 24 rfl rfl
theorem dksX11_does_11 : cX11_does.data.toList.drop 278 = dktX11_does_11 := dk_seg dksX11_does_10 24 rfl rfl
theorem dksX11_does_12 : cX11_does.data.toList.drop 300 = dktX11_does_12 := dk_seg dksX11_does_11 22 rfl rfl
theorem dksX11_does_13 : cX11_does.data.toList.drop 323 = dktX11_does_13 := dk_seg dksX11_does_12 23 rfl rfl
theorem dX11_does_0 : decode cX11_does 0 = .ok (.aload_n 0, 1) := dk_42 (dk_at dksX11_does_0 0 rfl rfl)
theorem dX11_does_1 : decode cX11_does 1 = .ok (.getfield 77, 3) := dk_180 0 77 (dk_at dksX11_does_0 1 rfl rfl)
theorem dX11_does_4 : decode cX11_does 4 = .ok (.iload_n 2, 1) := dk_28 (dk_at dksX11_does_0 4 rfl rfl)
theorem dX11_does_5 : decode cX11_does 5 = .ok (.iaload, 1) := dk_46 (dk_at dksX11_does_0 5 rfl rfl)
theorem dX11_does_6 : decode cX11_does 6 = .ok (.tableswitch 314 1 11 #[58, 132, 158, 158, 209, 218, 251, 314, 271, 280, 289], 58) := by decide +kernel
theorem dX11_does_64 : decode cX11_does 64 = .ok (.aload_n 0, 1) := dk_42 (dk_at dksX11_does_2 0 rfl rfl)
theorem dX11_does_65 : decode cX11_does 65 = .ok (.iload_n 1, 1) := dk_27 (dk_at dksX11_does_2 1 rfl rfl)
theorem dX11_does_66 : decode cX11_does 66 = .ok (.aload_n 0, 1) := dk_42 (dk_at dksX11_does_2 2 rfl rfl)
theorem dX11_does_67 : decode cX11_does 67 = .ok (.getfield 80, 3) := dk_180 0 80 (dk_at dksX11_does_2 3 rfl rfl)
theorem dX11_does_70 : decode cX11_does 70 = .ok (.iload_n 2, 1) := dk_28 (dk_at dksX11_does_2 6 rfl rfl)
theorem dX11_does_71 : decode cX11_does 71 = .ok (.iaload, 1) := dk_46 (dk_at dksX11_does_2 7 rfl rfl)
theorem dX11_does_72 : decode cX11_does 72 = .ok (.aload_n 0, 1) := dk_42 (dk_at dksX11_does_2 8 rfl rfl)
theorem dX11_does_73 : decode cX11_does 73 = .ok (.getfield 96, 3) := dk_180 0 96 (dk_at dksX11_does_2 9 rfl rfl)
theorem dX11_does_76 : decode cX11_does 76 = .ok (.iload_n 2, 1) := dk_28 (dk_at dksX11_does_2 12 rfl rfl)
theorem dX11_does_77 : decode cX11_does 77 = .ok (.laload, 1) := dk_47 (dk_at dksX11_does_2 13 rfl rfl)
theorem dX11_does_78 : decode cX11_does 78 = .ok (.aload_n 0, 1) := dk_42 (dk_at dksX11_does_2 14 rfl rfl)
theorem dX11_does_79 : decode cX11_does 79 = .ok (.getfield 17, 3) := dk_180 0 17 (dk_at dksX11_does_2 15 rfl rfl)
theorem dX11_does_82 : decode cX11_does 82 = .ok (.iload_n 1, 1) := dk_27 (dk_at dksX11_does_2 18 rfl rfl)
theorem dX11_does_83 : decode cX11_does 83 = .ok (.iaload, 1) := dk_46 (dk_at dksX11_does_2 19 rfl rfl)
theorem dX11_does_84 : decode cX11_does 84 = .ok (.invokevirtual 175, 3) := dk_182 0 175 (dk_at dksX11_does_2 20 rfl rfl)
theorem dX11_does_87 : decode cX11_does 87 = .ok (.aload_n 0, 1) := dk_42 (dk_at dksX11_does_2 23 rfl rfl)
theorem dX11_does_88 : decode cX11_does 88 = .ok (.iload_n 1, 1) := dk_27 (dk_at dksX11_does_3 0 rfl rfl)
theorem dX11_does_89 : decode cX11_does 89 = .ok (.aload_n 0, 1) := dk_42 (dk_at dksX11_does_3 1 rfl rfl)
theorem dX11_does_90 : decode cX11_does 90 = .ok (.getfield 83, 3) := dk_180 0 83 (dk_at dksX11_does_3 2 rfl rfl)
theorem dX11_does_93 : decode cX11_does 93 = .ok (.iload_n 2, 1) := dk_28 (dk_at dksX11_does_3 5 rfl rfl)
theorem dX11_does_94 : decode cX11_does 94 = .ok (.iaload, 1) := dk_46 (dk_at dksX11_does_3 6 rfl rfl)
theorem dX11_does_95 : decode cX11_does 95 = .ok (.invokevirtual 139, 3) := dk_182 0 139 (dk_at dksX11_does_3 7 rfl rfl)
theorem dX11_does_98 : decode cX11_does 98 = .ok (.aload_n 0, 1) := dk_42 (dk_at dksX11_does_3 10 rfl rfl)
theorem dX11_does_99 : decode cX11_does 99 = .ok (.getfield 83, 3) := dk_180 0 83 (dk_at dksX11_does_3 11 rfl rfl)
theorem dX11_does_102 : decode cX11_does 102 = .ok (.iload_n 2, 1) := dk_28 (dk_at dksX11_does_3 14 rfl rfl)
theorem dX11_does_103 : decode cX11_does 103 = .ok (.iaload, 1) := dk_46 (dk_at dksX11_does_3 15 rfl rfl)
theorem dX11_does_104 : decode cX11_does 104 = .ok (.iconst 3, 1) := dk_6 (dk_at dksX11_does_3 16 rfl rfl)
theorem dX11_does_105 : decode cX11_does 105 = .ok (.if_icmp .ne 226, 3) := dk_160 0 226 (dk_at dksX11_does_3 17 rfl rfl)
theorem dX11_does_108 : decode cX11_does 108 = .ok (.aload_n 0, 1) := dk_42 (dk_at dksX11_does_3 20 rfl rfl)
theorem dX11_does_109 : decode cX11_does 109 = .ok (.iload_n 1, 1) := dk_27 (dk_at dksX11_does_3 21 rfl rfl)
theorem dX11_does_110 : decode cX11_does 110 = .ok (.aload_n 0, 1) := dk_42 (dk_at dksX11_does_3 22 rfl rfl)
theorem dX11_does_111 : decode cX11_does 111 = .ok (.getfield 17, 3) := dk_180 0 17 (dk_at dksX11_does_4 0 rfl rfl)
theorem dX11_does_114 : decode cX11_does 114 = .ok (.iload_n 1, 1) := dk_27 (dk_at dksX11_does_4 3 rfl rfl)
theorem dX11_does_115 : decode cX11_does 115 = .ok (.iaload, 1) := dk_46 (dk_at dksX11_does_4 4 rfl rfl)
theorem dX11_does_116 : decode cX11_does 116 = .ok (.iconst 1, 1) := dk_4 (dk_at dksX11_does_4 5 rfl rfl)
theorem dX11_does_117 : decode cX11_does 117 = .ok (.isub, 1) := dk_100 (dk_at dksX11_does_4 6 rfl rfl)
theorem dX11_does_118 : decode cX11_does 118 = .ok (.iconst 0, 1) := dk_3 (dk_at dksX11_does_4 7 rfl rfl)
theorem dX11_does_119 : decode cX11_does 119 = .ok (.aload_n 0, 1) := dk_42 (dk_at dksX11_does_4 8 rfl rfl)
theorem dX11_does_120 : decode cX11_does 120 = .ok (.getfield 86, 3) := dk_180 0 86 (dk_at dksX11_does_4 9 rfl rfl)
theorem dX11_does_123 : decode cX11_does 123 = .ok (.iload_n 2, 1) := dk_28 (dk_at dksX11_does_4 12 rfl rfl)
theorem dX11_does_124 : decode cX11_does 124 = .ok (.iaload, 1) := dk_46 (dk_at dksX11_does_4 13 rfl rfl)
theorem dX11_does_125 : decode cX11_does 125 = .ok (.aload_n 0, 1) := dk_42 (dk_at dksX11_does_4 14 rfl rfl)
theorem dX11_does_126 : decode cX11_does 126 = .ok (.getfield 86, 3) := dk_180 0 86 (dk_at dksX11_does_4 15 rfl rfl)
theorem dX11_does_129 : decode cX11_does 129 = .ok (.iload_n 2, 1) := dk_28 (dk_at dksX11_does_4 18 rfl rfl)
theorem dX11_does_130 : decode cX11_does 130 = .ok (.iaload, 1) := dk_46 (dk_at dksX11_does_4 19 rfl rfl)
theorem dX11_does_131 : decode cX11_does 131 = .ok (.iload_n 2, 1) := dk_28 (dk_at dksX11_does_4 20 rfl rfl)
theorem dX11_does_132 : decode cX11_does 132 = .ok (.invokevirtual 179, 3) := dk_182 0 179 (dk_at dksX11_does_4 21 rfl rfl)
theorem dX11_does_135 : decode cX11_does 135 = .ok (.goto 196, 3) := dk_167 0 196 (dk_at dksX11_does_5 0 rfl rfl)
theorem dX11_does_138 : decode cX11_does 138 = .ok (.aload_n 0, 1) := dk_42 (dk_at dksX11_does_5 3 rfl rfl)
theorem dX11_does_139 : decode cX11_does 139 = .ok (.iload_n 1, 1) := dk_27 (dk_at dksX11_does_5 4 rfl rfl)
theorem dX11_does_140 : decode cX11_does 140 = .ok (.aload_n 0, 1) := dk_42 (dk_at dksX11_does_5 5 rfl rfl)
theorem dX11_does_141 : decode cX11_does 141 = .ok (.getfield 80, 3) := dk_180 0 80 (dk_at dksX11_does_5 6 rfl rfl)
theorem dX11_does_144 : decode cX11_does 144 = .ok (.iload_n 2, 1) := dk_28 (dk_at dksX11_does_5 9 rfl rfl)
theorem dX11_does_145 : decode cX11_does 145 = .ok (.iaload, 1) := dk_46 (dk_at dksX11_does_5 10 rfl rfl)
theorem dX11_does_146 : decode cX11_does 146 = .ok (.aload_n 0, 1) := dk_42 (dk_at dksX11_does_5 11 rfl rfl)
theorem dX11_does_147 : decode cX11_does 147 = .ok (.getfield 96, 3) := dk_180 0 96 (dk_at dksX11_does_5 12 rfl rfl)
theorem dX11_does_150 : decode cX11_does 150 = .ok (.iload_n 2, 1) := dk_28 (dk_at dksX11_does_5 15 rfl rfl)
theorem dX11_does_151 : decode cX11_does 151 = .ok (.laload, 1) := dk_47 (dk_at dksX11_does_5 16 rfl rfl)
theorem dX11_does_152 : decode cX11_does 152 = .ok (.aload_n 0, 1) := dk_42 (dk_at dksX11_does_5 17 rfl rfl)
theorem dX11_does_153 : decode cX11_does 153 = .ok (.getfield 83, 3) := dk_180 0 83 (dk_at dksX11_does_5 18 rfl rfl)
theorem dX11_does_156 : decode cX11_does 156 = .ok (.iload_n 2, 1) := dk_28 (dk_at dksX11_does_5 21 rfl rfl)
theorem dX11_does_157 : decode cX11_does 157 = .ok (.iaload, 1) := dk_46 (dk_at dksX11_does_5 22 rfl rfl)
theorem dX11_does_158 : decode cX11_does 158 = .ok (.invokevirtual 175, 3) := dk_182 0 175 (dk_at dksX11_does_6 0 rfl rfl)
theorem dX11_does_161 : decode cX11_does 161 = .ok (.goto 170, 3) := dk_167 0 170 (dk_at dksX11_does_6 3 rfl rfl)
theorem dX11_does_164 : decode cX11_does 164 = .ok (.aload_n 0, 1) := dk_42 (dk_at dksX11_does_6 6 rfl rfl)
theorem dX11_does_165 : decode cX11_does 165 = .ok (.iload_n 1, 1) := dk_27 (dk_at dksX11_does_6 7 rfl rfl)
theorem dX11_does_166 : decode cX11_does 166 = .ok (.aload_n 0, 1) := dk_42 (dk_at dksX11_does_6 8 rfl rfl)
theorem dX11_does_167 : decode cX11_does 167 = .ok (.getfield 80, 3) := dk_180 0 80 (dk_at dksX11_does_6 9 rfl rfl)
theorem dX11_does_170 : decode cX11_does 170 = .ok (.iload_n 2, 1) := dk_28 (dk_at dksX11_does_6 12 rfl rfl)
theorem dX11_does_171 : decode cX11_does 171 = .ok (.iaload, 1) := dk_46 (dk_at dksX11_does_6 13 rfl rfl)
theorem dX11_does_172 : decode cX11_does 172 = .ok (.aload_n 0, 1) := dk_42 (dk_at dksX11_does_6 14 rfl rfl)
theorem dX11_does_173 : decode cX11_does 173 = .ok (.getfield 96, 3) := dk_180 0 96 (dk_at dksX11_does_6 15 rfl rfl)
theorem dX11_does_176 : decode cX11_does 176 = .ok (.iload_n 2, 1) := dk_28 (dk_at dksX11_does_6 18 rfl rfl)
theorem dX11_does_177 : decode cX11_does 177 = .ok (.laload, 1) := dk_47 (dk_at dksX11_does_6 19 rfl rfl)
theorem dX11_does_178 : decode cX11_does 178 = .ok (.invokevirtual 162, 3) := dk_182 0 162 (dk_at dksX11_does_6 20 rfl rfl)
theorem dX11_does_181 : decode cX11_does 181 = .ok (.istore_n 3, 1) := dk_62 (dk_at dksX11_does_6 23 rfl rfl)
theorem dX11_does_182 : decode cX11_does 182 = .ok (.aload_n 0, 1) := dk_42 (dk_at dksX11_does_7 0 rfl rfl)
theorem dX11_does_183 : decode cX11_does 183 = .ok (.getfield 42, 3) := dk_180 0 42 (dk_at dksX11_does_7 1 rfl rfl)
theorem dX11_does_186 : decode cX11_does 186 = .ok (.iload_n 3, 1) := dk_29 (dk_at dksX11_does_7 4 rfl rfl)
theorem dX11_does_187 : decode cX11_does 187 = .ok (.iaload, 1) := dk_46 (dk_at dksX11_does_7 5 rfl rfl)
theorem dX11_does_188 : decode cX11_does 188 = .ok (.istore 4, 2) := dk_54 4 (dk_at dksX11_does_7 6 rfl rfl)
theorem dX11_does_190 : decode cX11_does 190 = .ok (.aload_n 0, 1) := dk_42 (dk_at dksX11_does_7 8 rfl rfl)
theorem dX11_does_191 : decode cX11_does 191 = .ok (.iload_n 1, 1) := dk_27 (dk_at dksX11_does_7 9 rfl rfl)
theorem dX11_does_192 : decode cX11_does 192 = .ok (.iload_n 3, 1) := dk_29 (dk_at dksX11_does_7 10 rfl rfl)
theorem dX11_does_193 : decode cX11_does 193 = .ok (.invokevirtual 166, 3) := dk_182 0 166 (dk_at dksX11_does_7 11 rfl rfl)
theorem dX11_does_196 : decode cX11_does 196 = .ok (.aload_n 0, 1) := dk_42 (dk_at dksX11_does_7 14 rfl rfl)
theorem dX11_does_197 : decode cX11_does 197 = .ok (.getfield 92, 3) := dk_180 0 92 (dk_at dksX11_does_7 15 rfl rfl)
theorem dX11_does_200 : decode cX11_does 200 = .ok (.iload_n 2, 1) := dk_28 (dk_at dksX11_does_7 18 rfl rfl)
theorem dX11_does_201 : decode cX11_does 201 = .ok (.baload, 1) := dk_51 (dk_at dksX11_does_7 19 rfl rfl)
theorem dX11_does_202 : decode cX11_does 202 = .ok (.ifCond .eq 129, 3) := dk_153 0 129 (dk_at dksX11_does_7 20 rfl rfl)
theorem dX11_does_205 : decode cX11_does 205 = .ok (.aload_n 0, 1) := dk_42 (dk_at dksX11_does_7 23 rfl rfl)
theorem dX11_does_206 : decode cX11_does 206 = .ok (.iload_n 1, 1) := dk_27 (dk_at dksX11_does_8 0 rfl rfl)
theorem dX11_does_207 : decode cX11_does 207 = .ok (.iload 4, 2) := dk_21 4 (dk_at dksX11_does_8 1 rfl rfl)
theorem dX11_does_209 : decode cX11_does 209 = .ok (.invokevirtual 169, 3) := dk_182 0 169 (dk_at dksX11_does_8 3 rfl rfl)
theorem dX11_does_212 : decode cX11_does 212 = .ok (.goto 119, 3) := dk_167 0 119 (dk_at dksX11_does_8 6 rfl rfl)
theorem dX11_does_215 : decode cX11_does 215 = .ok (.aload_n 0, 1) := dk_42 (dk_at dksX11_does_8 9 rfl rfl)
theorem dX11_does_216 : decode cX11_does 216 = .ok (.iload_n 1, 1) := dk_27 (dk_at dksX11_does_8 10 rfl rfl)
theorem dX11_does_217 : decode cX11_does 217 = .ok (.iload_n 2, 1) := dk_28 (dk_at dksX11_does_8 11 rfl rfl)
theorem dX11_does_218 : decode cX11_does 218 = .ok (.invokevirtual 183, 3) := dk_182 0 183 (dk_at dksX11_does_8 12 rfl rfl)
theorem dX11_does_221 : decode cX11_does 221 = .ok (.goto 110, 3) := dk_167 0 110 (dk_at dksX11_does_8 15 rfl rfl)
theorem dX11_does_224 : decode cX11_does 224 = .ok (.aload_n 0, 1) := dk_42 (dk_at dksX11_does_8 18 rfl rfl)
theorem dX11_does_225 : decode cX11_does 225 = .ok (.iload_n 1, 1) := dk_27 (dk_at dksX11_does_8 19 rfl rfl)
theorem dX11_does_226 : decode cX11_does 226 = .ok (.aload_n 0, 1) := dk_42 (dk_at dksX11_does_8 20 rfl rfl)
theorem dX11_does_227 : decode cX11_does 227 = .ok (.getfield 80, 3) := dk_180 0 80 (dk_at dksX11_does_8 21 rfl rfl)
theorem dX11_does_230 : decode cX11_does 230 = .ok (.iload_n 2, 1) := dk_28 (dk_at dksX11_does_9 0 rfl rfl)
theorem dX11_does_231 : decode cX11_does 231 = .ok (.iaload, 1) := dk_46 (dk_at dksX11_does_9 1 rfl rfl)
theorem dX11_does_232 : decode cX11_does 232 = .ok (.aload_n 0, 1) := dk_42 (dk_at dksX11_does_9 2 rfl rfl)
theorem dX11_does_233 : decode cX11_does 233 = .ok (.getfield 83, 3) := dk_180 0 83 (dk_at dksX11_does_9 3 rfl rfl)
theorem dX11_does_236 : decode cX11_does 236 = .ok (.iload_n 2, 1) := dk_28 (dk_at dksX11_does_9 6 rfl rfl)
theorem dX11_does_237 : decode cX11_does 237 = .ok (.iaload, 1) := dk_46 (dk_at dksX11_does_9 7 rfl rfl)
theorem dX11_does_238 : decode cX11_does 238 = .ok (.aload_n 0, 1) := dk_42 (dk_at dksX11_does_9 8 rfl rfl)
theorem dX11_does_239 : decode cX11_does 239 = .ok (.getfield 86, 3) := dk_180 0 86 (dk_at dksX11_does_9 9 rfl rfl)
theorem dX11_does_242 : decode cX11_does 242 = .ok (.iload_n 2, 1) := dk_28 (dk_at dksX11_does_9 12 rfl rfl)
theorem dX11_does_243 : decode cX11_does 243 = .ok (.iaload, 1) := dk_46 (dk_at dksX11_does_9 13 rfl rfl)
theorem dX11_does_244 : decode cX11_does 244 = .ok (.aload_n 0, 1) := dk_42 (dk_at dksX11_does_9 14 rfl rfl)
theorem dX11_does_245 : decode cX11_does 245 = .ok (.getfield 89, 3) := dk_180 0 89 (dk_at dksX11_does_9 15 rfl rfl)
theorem dX11_does_248 : decode cX11_does 248 = .ok (.iload_n 2, 1) := dk_28 (dk_at dksX11_does_9 18 rfl rfl)
theorem dX11_does_249 : decode cX11_does 249 = .ok (.iaload, 1) := dk_46 (dk_at dksX11_does_9 19 rfl rfl)
theorem dX11_does_250 : decode cX11_does 250 = .ok (.iload_n 2, 1) := dk_28 (dk_at dksX11_does_9 20 rfl rfl)
theorem dX11_does_251 : decode cX11_does 251 = .ok (.invokevirtual 179, 3) := dk_182 0 179 (dk_at dksX11_does_9 21 rfl rfl)
theorem dX11_does_254 : decode cX11_does 254 = .ok (.goto 77, 3) := dk_167 0 77 (dk_at dksX11_does_10 0 rfl rfl)
theorem dX11_does_257 : decode cX11_does 257 = .ok (.aload_n 0, 1) := dk_42 (dk_at dksX11_does_10 3 rfl rfl)
theorem dX11_does_258 : decode cX11_does 258 = .ok (.iload_n 1, 1) := dk_27 (dk_at dksX11_does_10 4 rfl rfl)
theorem dX11_does_259 : decode cX11_does 259 = .ok (.aload_n 0, 1) := dk_42 (dk_at dksX11_does_10 5 rfl rfl)
theorem dX11_does_260 : decode cX11_does 260 = .ok (.getfield 80, 3) := dk_180 0 80 (dk_at dksX11_does_10 6 rfl rfl)
theorem dX11_does_263 : decode cX11_does 263 = .ok (.iload_n 2, 1) := dk_28 (dk_at dksX11_does_10 9 rfl rfl)
theorem dX11_does_264 : decode cX11_does 264 = .ok (.iaload, 1) := dk_46 (dk_at dksX11_does_10 10 rfl rfl)
theorem dX11_does_265 : decode cX11_does 265 = .ok (.aload_n 0, 1) := dk_42 (dk_at dksX11_does_10 11 rfl rfl)
theorem dX11_does_266 : decode cX11_does 266 = .ok (.getfield 83, 3) := dk_180 0 83 (dk_at dksX11_does_10 12 rfl rfl)
theorem dX11_does_269 : decode cX11_does 269 = .ok (.iload_n 2, 1) := dk_28 (dk_at dksX11_does_10 15 rfl rfl)
theorem dX11_does_270 : decode cX11_does 270 = .ok (.iaload, 1) := dk_46 (dk_at dksX11_does_10 16 rfl rfl)
theorem dX11_does_271 : decode cX11_does 271 = .ok (.invokevirtual 186, 3) := dk_182 0 186 (dk_at dksX11_does_10 17 rfl rfl)
theorem dX11_does_274 : decode cX11_does 274 = .ok (.goto 57, 3) := dk_167 0 57 (dk_at dksX11_does_10 20 rfl rfl)
theorem dX11_does_277 : decode cX11_does 277 = .ok (.aload_n 0, 1) := dk_42 (dk_at dksX11_does_10 23 rfl rfl)
theorem dX11_does_278 : decode cX11_does 278 = .ok (.iload_n 1, 1) := dk_27 (dk_at dksX11_does_11 0 rfl rfl)
theorem dX11_does_279 : decode cX11_does 279 = .ok (.iload_n 2, 1) := dk_28 (dk_at dksX11_does_11 1 rfl rfl)
theorem dX11_does_280 : decode cX11_does 280 = .ok (.invokevirtual 189, 3) := dk_182 0 189 (dk_at dksX11_does_11 2 rfl rfl)
theorem dX11_does_283 : decode cX11_does 283 = .ok (.goto 48, 3) := dk_167 0 48 (dk_at dksX11_does_11 5 rfl rfl)
theorem dX11_does_286 : decode cX11_does 286 = .ok (.aload_n 0, 1) := dk_42 (dk_at dksX11_does_11 8 rfl rfl)
theorem dX11_does_287 : decode cX11_does 287 = .ok (.iload_n 1, 1) := dk_27 (dk_at dksX11_does_11 9 rfl rfl)
theorem dX11_does_288 : decode cX11_does 288 = .ok (.iload_n 2, 1) := dk_28 (dk_at dksX11_does_11 10 rfl rfl)
theorem dX11_does_289 : decode cX11_does 289 = .ok (.invokevirtual 192, 3) := dk_182 0 192 (dk_at dksX11_does_11 11 rfl rfl)
theorem dX11_does_292 : decode cX11_does 292 = .ok (.goto 39, 3) := dk_167 0 39 (dk_at dksX11_does_11 14 rfl rfl)
theorem dX11_does_295 : decode cX11_does 295 = .ok (.aload_n 0, 1) := dk_42 (dk_at dksX11_does_11 17 rfl rfl)
theorem dX11_does_296 : decode cX11_does 296 = .ok (.iload_n 1, 1) := dk_27 (dk_at dksX11_does_11 18 rfl rfl)
theorem dX11_does_297 : decode cX11_does 297 = .ok (.aload_n 0, 1) := dk_42 (dk_at dksX11_does_11 19 rfl rfl)
theorem dX11_does_298 : decode cX11_does 298 = .ok (.iload_n 1, 1) := dk_27 (dk_at dksX11_does_11 20 rfl rfl)
theorem dX11_does_299 : decode cX11_does 299 = .ok (.aload_n 0, 1) := dk_42 (dk_at dksX11_does_11 21 rfl rfl)
theorem dX11_does_300 : decode cX11_does 300 = .ok (.getfield 80, 3) := dk_180 0 80 (dk_at dksX11_does_12 0 rfl rfl)
theorem dX11_does_303 : decode cX11_does 303 = .ok (.iload_n 2, 1) := dk_28 (dk_at dksX11_does_12 3 rfl rfl)
theorem dX11_does_304 : decode cX11_does 304 = .ok (.iaload, 1) := dk_46 (dk_at dksX11_does_12 4 rfl rfl)
theorem dX11_does_305 : decode cX11_does 305 = .ok (.aload_n 0, 1) := dk_42 (dk_at dksX11_does_12 5 rfl rfl)
theorem dX11_does_306 : decode cX11_does 306 = .ok (.getfield 96, 3) := dk_180 0 96 (dk_at dksX11_does_12 6 rfl rfl)
theorem dX11_does_309 : decode cX11_does 309 = .ok (.iload_n 2, 1) := dk_28 (dk_at dksX11_does_12 9 rfl rfl)
theorem dX11_does_310 : decode cX11_does 310 = .ok (.laload, 1) := dk_47 (dk_at dksX11_does_12 10 rfl rfl)
theorem dX11_does_311 : decode cX11_does 311 = .ok (.invokevirtual 172, 3) := dk_182 0 172 (dk_at dksX11_does_12 11 rfl rfl)
theorem dX11_does_314 : decode cX11_does 314 = .ok (.invokevirtual 151, 3) := dk_182 0 151 (dk_at dksX11_does_12 14 rfl rfl)
theorem dX11_does_317 : decode cX11_does 317 = .ok (.goto 14, 3) := dk_167 0 14 (dk_at dksX11_does_12 17 rfl rfl)
theorem dX11_does_320 : decode cX11_does 320 = .ok (.aload_n 0, 1) := dk_42 (dk_at dksX11_does_12 20 rfl rfl)
theorem dX11_does_321 : decode cX11_does 321 = .ok (.iload_n 1, 1) := dk_27 (dk_at dksX11_does_12 21 rfl rfl)
theorem dX11_does_322 : decode cX11_does 322 = .ok (.aload_n 0, 1) := dk_42 (dk_at dksX11_does_12 22 rfl rfl)
theorem dX11_does_323 : decode cX11_does 323 = .ok (.getfield 80, 3) := dk_180 0 80 (dk_at dksX11_does_13 0 rfl rfl)
theorem dX11_does_326 : decode cX11_does 326 = .ok (.iload_n 2, 1) := dk_28 (dk_at dksX11_does_13 3 rfl rfl)
theorem dX11_does_327 : decode cX11_does 327 = .ok (.iaload, 1) := dk_46 (dk_at dksX11_does_13 4 rfl rfl)
theorem dX11_does_328 : decode cX11_does 328 = .ok (.invokevirtual 169, 3) := dk_182 0 169 (dk_at dksX11_does_13 5 rfl rfl)
theorem dX11_does_331 : decode cX11_does 331 = .ok (.return_, 1) := dk_177 (dk_at dksX11_does_13 8 rfl rfl)
abbrev cX11_addEntry : ByteArray := prog_12_method_10_code
def yX11_addEntry : MethodName := ⟨RX11, "addEntry", "(IIJI)V"⟩
def dkwX11_addEntry_2 : List UInt8 := [96, 79, 177]
abbrev dktX11_addEntry_2 : List UInt8 := dkwX11_addEntry_2 ++ []
def dkwX11_addEntry_1 : List UInt8 := [180, 0, 38, 21, 6, 33, 80, 42, 180, 0, 42, 21, 6, 21, 5, 79, 42, 180, 0, 32, 27, 92, 46, 4]
abbrev dktX11_addEntry_1 : List UInt8 := dkwX11_addEntry_1 ++ dktX11_addEntry_2
def dkwX11_addEntry_0 : List UInt8 := [17, 2, 188, 27, 104, 42, 180, 0, 32, 27, 46, 96, 54, 6, 42, 180, 0, 35, 21, 6, 28, 79, 42]
abbrev dktX11_addEntry_0 : List UInt8 := dkwX11_addEntry_0 ++ dktX11_addEntry_1
theorem dksX11_addEntry_0 : cX11_addEntry.data.toList.drop 0 = dktX11_addEntry_0 := by decide +kernel
theorem dksX11_addEntry_1 : cX11_addEntry.data.toList.drop 23 = dktX11_addEntry_1 := dk_seg dksX11_addEntry_0 23 rfl rfl
theorem dksX11_addEntry_2 : cX11_addEntry.data.toList.drop 47 = dktX11_addEntry_2 := dk_seg dksX11_addEntry_1 24 rfl rfl
theorem dX11_addEntry_0 : decode cX11_addEntry 0 = .ok (.sipush 700, 3) := dk_17 2 188 (dk_at dksX11_addEntry_0 0 rfl rfl)
theorem dX11_addEntry_3 : decode cX11_addEntry 3 = .ok (.iload_n 1, 1) := dk_27 (dk_at dksX11_addEntry_0 3 rfl rfl)
theorem dX11_addEntry_4 : decode cX11_addEntry 4 = .ok (.imul, 1) := dk_104 (dk_at dksX11_addEntry_0 4 rfl rfl)
theorem dX11_addEntry_5 : decode cX11_addEntry 5 = .ok (.aload_n 0, 1) := dk_42 (dk_at dksX11_addEntry_0 5 rfl rfl)
theorem dX11_addEntry_6 : decode cX11_addEntry 6 = .ok (.getfield 32, 3) := dk_180 0 32 (dk_at dksX11_addEntry_0 6 rfl rfl)
theorem dX11_addEntry_9 : decode cX11_addEntry 9 = .ok (.iload_n 1, 1) := dk_27 (dk_at dksX11_addEntry_0 9 rfl rfl)
theorem dX11_addEntry_10 : decode cX11_addEntry 10 = .ok (.iaload, 1) := dk_46 (dk_at dksX11_addEntry_0 10 rfl rfl)
theorem dX11_addEntry_11 : decode cX11_addEntry 11 = .ok (.iadd, 1) := dk_96 (dk_at dksX11_addEntry_0 11 rfl rfl)
theorem dX11_addEntry_12 : decode cX11_addEntry 12 = .ok (.istore 6, 2) := dk_54 6 (dk_at dksX11_addEntry_0 12 rfl rfl)
theorem dX11_addEntry_14 : decode cX11_addEntry 14 = .ok (.aload_n 0, 1) := dk_42 (dk_at dksX11_addEntry_0 14 rfl rfl)
theorem dX11_addEntry_15 : decode cX11_addEntry 15 = .ok (.getfield 35, 3) := dk_180 0 35 (dk_at dksX11_addEntry_0 15 rfl rfl)
theorem dX11_addEntry_18 : decode cX11_addEntry 18 = .ok (.iload 6, 2) := dk_21 6 (dk_at dksX11_addEntry_0 18 rfl rfl)
theorem dX11_addEntry_20 : decode cX11_addEntry 20 = .ok (.iload_n 2, 1) := dk_28 (dk_at dksX11_addEntry_0 20 rfl rfl)
theorem dX11_addEntry_21 : decode cX11_addEntry 21 = .ok (.iastore, 1) := dk_79 (dk_at dksX11_addEntry_0 21 rfl rfl)
theorem dX11_addEntry_22 : decode cX11_addEntry 22 = .ok (.aload_n 0, 1) := dk_42 (dk_at dksX11_addEntry_0 22 rfl rfl)
theorem dX11_addEntry_23 : decode cX11_addEntry 23 = .ok (.getfield 38, 3) := dk_180 0 38 (dk_at dksX11_addEntry_1 0 rfl rfl)
theorem dX11_addEntry_26 : decode cX11_addEntry 26 = .ok (.iload 6, 2) := dk_21 6 (dk_at dksX11_addEntry_1 3 rfl rfl)
theorem dX11_addEntry_28 : decode cX11_addEntry 28 = .ok (.lload_n 3, 1) := dk_33 (dk_at dksX11_addEntry_1 5 rfl rfl)
theorem dX11_addEntry_29 : decode cX11_addEntry 29 = .ok (.lastore, 1) := dk_80 (dk_at dksX11_addEntry_1 6 rfl rfl)
theorem dX11_addEntry_30 : decode cX11_addEntry 30 = .ok (.aload_n 0, 1) := dk_42 (dk_at dksX11_addEntry_1 7 rfl rfl)
theorem dX11_addEntry_31 : decode cX11_addEntry 31 = .ok (.getfield 42, 3) := dk_180 0 42 (dk_at dksX11_addEntry_1 8 rfl rfl)
theorem dX11_addEntry_34 : decode cX11_addEntry 34 = .ok (.iload 6, 2) := dk_21 6 (dk_at dksX11_addEntry_1 11 rfl rfl)
theorem dX11_addEntry_36 : decode cX11_addEntry 36 = .ok (.iload 5, 2) := dk_21 5 (dk_at dksX11_addEntry_1 13 rfl rfl)
theorem dX11_addEntry_38 : decode cX11_addEntry 38 = .ok (.iastore, 1) := dk_79 (dk_at dksX11_addEntry_1 15 rfl rfl)
theorem dX11_addEntry_39 : decode cX11_addEntry 39 = .ok (.aload_n 0, 1) := dk_42 (dk_at dksX11_addEntry_1 16 rfl rfl)
theorem dX11_addEntry_40 : decode cX11_addEntry 40 = .ok (.getfield 32, 3) := dk_180 0 32 (dk_at dksX11_addEntry_1 17 rfl rfl)
theorem dX11_addEntry_43 : decode cX11_addEntry 43 = .ok (.iload_n 1, 1) := dk_27 (dk_at dksX11_addEntry_1 20 rfl rfl)
theorem dX11_addEntry_44 : decode cX11_addEntry 44 = .ok (.dup2, 1) := dk_92 (dk_at dksX11_addEntry_1 21 rfl rfl)
theorem dX11_addEntry_45 : decode cX11_addEntry 45 = .ok (.iaload, 1) := dk_46 (dk_at dksX11_addEntry_1 22 rfl rfl)
theorem dX11_addEntry_46 : decode cX11_addEntry 46 = .ok (.iconst 1, 1) := dk_4 (dk_at dksX11_addEntry_1 23 rfl rfl)
theorem dX11_addEntry_47 : decode cX11_addEntry 47 = .ok (.iadd, 1) := dk_96 (dk_at dksX11_addEntry_2 0 rfl rfl)
theorem dX11_addEntry_48 : decode cX11_addEntry 48 = .ok (.iastore, 1) := dk_79 (dk_at dksX11_addEntry_2 1 rfl rfl)
theorem dX11_addEntry_49 : decode cX11_addEntry 49 = .ok (.return_, 1) := dk_177 (dk_at dksX11_addEntry_2 2 rfl rfl)
abbrev cX11_setPiece : ByteArray := prog_12_method_17_code
def yX11_setPiece : MethodName := ⟨RX11, "setPiece", "(IIIIII)V"⟩
def dkwX11_setPiece_5 : List UInt8 := [21, 5, 79, 177]
abbrev dktX11_setPiece_5 : List UInt8 := dkwX11_setPiece_5 ++ []
def dkwX11_setPiece_4 : List UInt8 := [21, 6, 104, 21, 8, 96, 51, 84, 132, 8, 1, 167, 255, 220, 42, 180, 0, 29, 42, 27, 28, 182, 0, 143]
abbrev dktX11_setPiece_4 : List UInt8 := dkwX11_setPiece_4 ++ dktX11_setPiece_5
def dkwX11_setPiece_3 : List UInt8 := [16, 64, 162, 0, 35, 42, 180, 0, 70, 16, 64, 21, 7, 104, 21, 8, 96, 42, 180, 0, 102, 16, 64]
abbrev dktX11_setPiece_3 : List UInt8 := dkwX11_setPiece_3 ++ dktX11_setPiece_4
def dkwX11_setPiece_2 : List UInt8 := [180, 0, 57, 27, 92, 46, 4, 96, 79, 42, 180, 0, 66, 21, 7, 21, 4, 79, 3, 54, 8, 21, 8]
abbrev dktX11_setPiece_2 : List UInt8 := dkwX11_setPiece_2 ++ dktX11_setPiece_3
def dkwX11_setPiece_1 : List UInt8 := [27, 46, 96, 54, 7, 42, 180, 0, 60, 21, 7, 28, 79, 42, 180, 0, 63, 21, 7, 29, 79, 42]
abbrev dktX11_setPiece_1 : List UInt8 := dkwX11_setPiece_1 ++ dktX11_setPiece_2
def dkwX11_setPiece_0 : List UInt8 := [42, 27, 28, 29, 182, 0, 158, 54, 7, 21, 7, 2, 160, 0, 43, 17, 2, 208, 27, 104, 42, 180, 0, 57]
abbrev dktX11_setPiece_0 : List UInt8 := dkwX11_setPiece_0 ++ dktX11_setPiece_1
theorem dksX11_setPiece_0 : cX11_setPiece.data.toList.drop 0 = dktX11_setPiece_0 := by decide +kernel
theorem dksX11_setPiece_1 : cX11_setPiece.data.toList.drop 24 = dktX11_setPiece_1 := dk_seg dksX11_setPiece_0 24 rfl rfl
theorem dksX11_setPiece_2 : cX11_setPiece.data.toList.drop 46 = dktX11_setPiece_2 := dk_seg dksX11_setPiece_1 22 rfl rfl
theorem dksX11_setPiece_3 : cX11_setPiece.data.toList.drop 69 = dktX11_setPiece_3 := dk_seg dksX11_setPiece_2 23 rfl rfl
theorem dksX11_setPiece_4 : cX11_setPiece.data.toList.drop 92 = dktX11_setPiece_4 := dk_seg dksX11_setPiece_3 23 rfl rfl
theorem dksX11_setPiece_5 : cX11_setPiece.data.toList.drop 116 = dktX11_setPiece_5 := dk_seg dksX11_setPiece_4 24 rfl rfl
theorem dX11_setPiece_0 : decode cX11_setPiece 0 = .ok (.aload_n 0, 1) := dk_42 (dk_at dksX11_setPiece_0 0 rfl rfl)
theorem dX11_setPiece_1 : decode cX11_setPiece 1 = .ok (.iload_n 1, 1) := dk_27 (dk_at dksX11_setPiece_0 1 rfl rfl)
theorem dX11_setPiece_2 : decode cX11_setPiece 2 = .ok (.iload_n 2, 1) := dk_28 (dk_at dksX11_setPiece_0 2 rfl rfl)
theorem dX11_setPiece_3 : decode cX11_setPiece 3 = .ok (.iload_n 3, 1) := dk_29 (dk_at dksX11_setPiece_0 3 rfl rfl)
theorem dX11_setPiece_4 : decode cX11_setPiece 4 = .ok (.invokevirtual 158, 3) := dk_182 0 158 (dk_at dksX11_setPiece_0 4 rfl rfl)
theorem dX11_setPiece_7 : decode cX11_setPiece 7 = .ok (.istore 7, 2) := dk_54 7 (dk_at dksX11_setPiece_0 7 rfl rfl)
theorem dX11_setPiece_9 : decode cX11_setPiece 9 = .ok (.iload 7, 2) := dk_21 7 (dk_at dksX11_setPiece_0 9 rfl rfl)
theorem dX11_setPiece_11 : decode cX11_setPiece 11 = .ok (.iconst (-1), 1) := dk_2 (dk_at dksX11_setPiece_0 11 rfl rfl)
theorem dX11_setPiece_12 : decode cX11_setPiece 12 = .ok (.if_icmp .ne 43, 3) := dk_160 0 43 (dk_at dksX11_setPiece_0 12 rfl rfl)
theorem dX11_setPiece_15 : decode cX11_setPiece 15 = .ok (.sipush 720, 3) := dk_17 2 208 (dk_at dksX11_setPiece_0 15 rfl rfl)
theorem dX11_setPiece_18 : decode cX11_setPiece 18 = .ok (.iload_n 1, 1) := dk_27 (dk_at dksX11_setPiece_0 18 rfl rfl)
theorem dX11_setPiece_19 : decode cX11_setPiece 19 = .ok (.imul, 1) := dk_104 (dk_at dksX11_setPiece_0 19 rfl rfl)
theorem dX11_setPiece_20 : decode cX11_setPiece 20 = .ok (.aload_n 0, 1) := dk_42 (dk_at dksX11_setPiece_0 20 rfl rfl)
theorem dX11_setPiece_21 : decode cX11_setPiece 21 = .ok (.getfield 57, 3) := dk_180 0 57 (dk_at dksX11_setPiece_0 21 rfl rfl)
theorem dX11_setPiece_24 : decode cX11_setPiece 24 = .ok (.iload_n 1, 1) := dk_27 (dk_at dksX11_setPiece_1 0 rfl rfl)
theorem dX11_setPiece_25 : decode cX11_setPiece 25 = .ok (.iaload, 1) := dk_46 (dk_at dksX11_setPiece_1 1 rfl rfl)
theorem dX11_setPiece_26 : decode cX11_setPiece 26 = .ok (.iadd, 1) := dk_96 (dk_at dksX11_setPiece_1 2 rfl rfl)
theorem dX11_setPiece_27 : decode cX11_setPiece 27 = .ok (.istore 7, 2) := dk_54 7 (dk_at dksX11_setPiece_1 3 rfl rfl)
theorem dX11_setPiece_29 : decode cX11_setPiece 29 = .ok (.aload_n 0, 1) := dk_42 (dk_at dksX11_setPiece_1 5 rfl rfl)
theorem dX11_setPiece_30 : decode cX11_setPiece 30 = .ok (.getfield 60, 3) := dk_180 0 60 (dk_at dksX11_setPiece_1 6 rfl rfl)
theorem dX11_setPiece_33 : decode cX11_setPiece 33 = .ok (.iload 7, 2) := dk_21 7 (dk_at dksX11_setPiece_1 9 rfl rfl)
theorem dX11_setPiece_35 : decode cX11_setPiece 35 = .ok (.iload_n 2, 1) := dk_28 (dk_at dksX11_setPiece_1 11 rfl rfl)
theorem dX11_setPiece_36 : decode cX11_setPiece 36 = .ok (.iastore, 1) := dk_79 (dk_at dksX11_setPiece_1 12 rfl rfl)
theorem dX11_setPiece_37 : decode cX11_setPiece 37 = .ok (.aload_n 0, 1) := dk_42 (dk_at dksX11_setPiece_1 13 rfl rfl)
theorem dX11_setPiece_38 : decode cX11_setPiece 38 = .ok (.getfield 63, 3) := dk_180 0 63 (dk_at dksX11_setPiece_1 14 rfl rfl)
theorem dX11_setPiece_41 : decode cX11_setPiece 41 = .ok (.iload 7, 2) := dk_21 7 (dk_at dksX11_setPiece_1 17 rfl rfl)
theorem dX11_setPiece_43 : decode cX11_setPiece 43 = .ok (.iload_n 3, 1) := dk_29 (dk_at dksX11_setPiece_1 19 rfl rfl)
theorem dX11_setPiece_44 : decode cX11_setPiece 44 = .ok (.iastore, 1) := dk_79 (dk_at dksX11_setPiece_1 20 rfl rfl)
theorem dX11_setPiece_45 : decode cX11_setPiece 45 = .ok (.aload_n 0, 1) := dk_42 (dk_at dksX11_setPiece_1 21 rfl rfl)
theorem dX11_setPiece_46 : decode cX11_setPiece 46 = .ok (.getfield 57, 3) := dk_180 0 57 (dk_at dksX11_setPiece_2 0 rfl rfl)
theorem dX11_setPiece_49 : decode cX11_setPiece 49 = .ok (.iload_n 1, 1) := dk_27 (dk_at dksX11_setPiece_2 3 rfl rfl)
theorem dX11_setPiece_50 : decode cX11_setPiece 50 = .ok (.dup2, 1) := dk_92 (dk_at dksX11_setPiece_2 4 rfl rfl)
theorem dX11_setPiece_51 : decode cX11_setPiece 51 = .ok (.iaload, 1) := dk_46 (dk_at dksX11_setPiece_2 5 rfl rfl)
theorem dX11_setPiece_52 : decode cX11_setPiece 52 = .ok (.iconst 1, 1) := dk_4 (dk_at dksX11_setPiece_2 6 rfl rfl)
theorem dX11_setPiece_53 : decode cX11_setPiece 53 = .ok (.iadd, 1) := dk_96 (dk_at dksX11_setPiece_2 7 rfl rfl)
theorem dX11_setPiece_54 : decode cX11_setPiece 54 = .ok (.iastore, 1) := dk_79 (dk_at dksX11_setPiece_2 8 rfl rfl)
theorem dX11_setPiece_55 : decode cX11_setPiece 55 = .ok (.aload_n 0, 1) := dk_42 (dk_at dksX11_setPiece_2 9 rfl rfl)
theorem dX11_setPiece_56 : decode cX11_setPiece 56 = .ok (.getfield 66, 3) := dk_180 0 66 (dk_at dksX11_setPiece_2 10 rfl rfl)
theorem dX11_setPiece_59 : decode cX11_setPiece 59 = .ok (.iload 7, 2) := dk_21 7 (dk_at dksX11_setPiece_2 13 rfl rfl)
theorem dX11_setPiece_61 : decode cX11_setPiece 61 = .ok (.iload 4, 2) := dk_21 4 (dk_at dksX11_setPiece_2 15 rfl rfl)
theorem dX11_setPiece_63 : decode cX11_setPiece 63 = .ok (.iastore, 1) := dk_79 (dk_at dksX11_setPiece_2 17 rfl rfl)
theorem dX11_setPiece_64 : decode cX11_setPiece 64 = .ok (.iconst 0, 1) := dk_3 (dk_at dksX11_setPiece_2 18 rfl rfl)
theorem dX11_setPiece_65 : decode cX11_setPiece 65 = .ok (.istore 8, 2) := dk_54 8 (dk_at dksX11_setPiece_2 19 rfl rfl)
theorem dX11_setPiece_67 : decode cX11_setPiece 67 = .ok (.iload 8, 2) := dk_21 8 (dk_at dksX11_setPiece_2 21 rfl rfl)
theorem dX11_setPiece_69 : decode cX11_setPiece 69 = .ok (.bipush 64, 2) := dk_16 64 (dk_at dksX11_setPiece_3 0 rfl rfl)
theorem dX11_setPiece_71 : decode cX11_setPiece 71 = .ok (.if_icmp .ge 35, 3) := dk_162 0 35 (dk_at dksX11_setPiece_3 2 rfl rfl)
theorem dX11_setPiece_74 : decode cX11_setPiece 74 = .ok (.aload_n 0, 1) := dk_42 (dk_at dksX11_setPiece_3 5 rfl rfl)
theorem dX11_setPiece_75 : decode cX11_setPiece 75 = .ok (.getfield 70, 3) := dk_180 0 70 (dk_at dksX11_setPiece_3 6 rfl rfl)
theorem dX11_setPiece_78 : decode cX11_setPiece 78 = .ok (.bipush 64, 2) := dk_16 64 (dk_at dksX11_setPiece_3 9 rfl rfl)
theorem dX11_setPiece_80 : decode cX11_setPiece 80 = .ok (.iload 7, 2) := dk_21 7 (dk_at dksX11_setPiece_3 11 rfl rfl)
theorem dX11_setPiece_82 : decode cX11_setPiece 82 = .ok (.imul, 1) := dk_104 (dk_at dksX11_setPiece_3 13 rfl rfl)
theorem dX11_setPiece_83 : decode cX11_setPiece 83 = .ok (.iload 8, 2) := dk_21 8 (dk_at dksX11_setPiece_3 14 rfl rfl)
theorem dX11_setPiece_85 : decode cX11_setPiece 85 = .ok (.iadd, 1) := dk_96 (dk_at dksX11_setPiece_3 16 rfl rfl)
theorem dX11_setPiece_86 : decode cX11_setPiece 86 = .ok (.aload_n 0, 1) := dk_42 (dk_at dksX11_setPiece_3 17 rfl rfl)
theorem dX11_setPiece_87 : decode cX11_setPiece 87 = .ok (.getfield 102, 3) := dk_180 0 102 (dk_at dksX11_setPiece_3 18 rfl rfl)
theorem dX11_setPiece_90 : decode cX11_setPiece 90 = .ok (.bipush 64, 2) := dk_16 64 (dk_at dksX11_setPiece_3 21 rfl rfl)
theorem dX11_setPiece_92 : decode cX11_setPiece 92 = .ok (.iload 6, 2) := dk_21 6 (dk_at dksX11_setPiece_4 0 rfl rfl)
theorem dX11_setPiece_94 : decode cX11_setPiece 94 = .ok (.imul, 1) := dk_104 (dk_at dksX11_setPiece_4 2 rfl rfl)
theorem dX11_setPiece_95 : decode cX11_setPiece 95 = .ok (.iload 8, 2) := dk_21 8 (dk_at dksX11_setPiece_4 3 rfl rfl)
theorem dX11_setPiece_97 : decode cX11_setPiece 97 = .ok (.iadd, 1) := dk_96 (dk_at dksX11_setPiece_4 5 rfl rfl)
theorem dX11_setPiece_98 : decode cX11_setPiece 98 = .ok (.baload, 1) := dk_51 (dk_at dksX11_setPiece_4 6 rfl rfl)
theorem dX11_setPiece_99 : decode cX11_setPiece 99 = .ok (.bastore, 1) := dk_84 (dk_at dksX11_setPiece_4 7 rfl rfl)
theorem dX11_setPiece_100 : decode cX11_setPiece 100 = .ok (.iinc 8 1, 3) := dk_132 8 1 (dk_at dksX11_setPiece_4 8 rfl rfl)
theorem dX11_setPiece_103 : decode cX11_setPiece 103 = .ok (.goto (-36), 3) := dk_167 255 220 (dk_at dksX11_setPiece_4 11 rfl rfl)
theorem dX11_setPiece_106 : decode cX11_setPiece 106 = .ok (.aload_n 0, 1) := dk_42 (dk_at dksX11_setPiece_4 14 rfl rfl)
theorem dX11_setPiece_107 : decode cX11_setPiece 107 = .ok (.getfield 29, 3) := dk_180 0 29 (dk_at dksX11_setPiece_4 15 rfl rfl)
theorem dX11_setPiece_110 : decode cX11_setPiece 110 = .ok (.aload_n 0, 1) := dk_42 (dk_at dksX11_setPiece_4 18 rfl rfl)
theorem dX11_setPiece_111 : decode cX11_setPiece 111 = .ok (.iload_n 1, 1) := dk_27 (dk_at dksX11_setPiece_4 19 rfl rfl)
theorem dX11_setPiece_112 : decode cX11_setPiece 112 = .ok (.iload_n 2, 1) := dk_28 (dk_at dksX11_setPiece_4 20 rfl rfl)
theorem dX11_setPiece_113 : decode cX11_setPiece 113 = .ok (.invokevirtual 143, 3) := dk_182 0 143 (dk_at dksX11_setPiece_4 21 rfl rfl)
theorem dX11_setPiece_116 : decode cX11_setPiece 116 = .ok (.iload 5, 2) := dk_21 5 (dk_at dksX11_setPiece_5 0 rfl rfl)
theorem dX11_setPiece_118 : decode cX11_setPiece 118 = .ok (.iastore, 1) := dk_79 (dk_at dksX11_setPiece_5 2 rfl rfl)
theorem dX11_setPiece_119 : decode cX11_setPiece 119 = .ok (.return_, 1) := dk_177 (dk_at dksX11_setPiece_5 3 rfl rfl)
abbrev cX11_pieceOf : ByteArray := prog_12_method_14_code
def yX11_pieceOf : MethodName := ⟨RX11, "pieceOf", "(III)I"⟩
def dkwX11_pieceOf_2 : List UInt8 := [160, 0, 8, 21, 5, 167, 0, 5, 21, 4, 54, 4, 132, 5, 1, 167, 255, 205, 21, 4, 172]
abbrev dktX11_pieceOf_2 : List UInt8 := dkwX11_pieceOf_2 ++ []
def dkwX11_pieceOf_1 : List UInt8 := [162, 0, 40, 42, 180, 0, 60, 21, 5, 46, 28, 160, 0, 19, 42, 180, 0, 63, 21, 5, 46, 29]
abbrev dktX11_pieceOf_1 : List UInt8 := dkwX11_pieceOf_1 ++ dktX11_pieceOf_2
def dkwX11_pieceOf_0 : List UInt8 := [2, 54, 4, 17, 2, 208, 27, 104, 54, 5, 21, 5, 17, 2, 208, 27, 104, 42, 180, 0, 57, 27, 46, 96]
abbrev dktX11_pieceOf_0 : List UInt8 := dkwX11_pieceOf_0 ++ dktX11_pieceOf_1
theorem dksX11_pieceOf_0 : cX11_pieceOf.data.toList.drop 0 = dktX11_pieceOf_0 := by decide +kernel
theorem dksX11_pieceOf_1 : cX11_pieceOf.data.toList.drop 24 = dktX11_pieceOf_1 := dk_seg dksX11_pieceOf_0 24 rfl rfl
theorem dksX11_pieceOf_2 : cX11_pieceOf.data.toList.drop 46 = dktX11_pieceOf_2 := dk_seg dksX11_pieceOf_1 22 rfl rfl
theorem dX11_pieceOf_0 : decode cX11_pieceOf 0 = .ok (.iconst (-1), 1) := dk_2 (dk_at dksX11_pieceOf_0 0 rfl rfl)
theorem dX11_pieceOf_1 : decode cX11_pieceOf 1 = .ok (.istore 4, 2) := dk_54 4 (dk_at dksX11_pieceOf_0 1 rfl rfl)
theorem dX11_pieceOf_3 : decode cX11_pieceOf 3 = .ok (.sipush 720, 3) := dk_17 2 208 (dk_at dksX11_pieceOf_0 3 rfl rfl)
theorem dX11_pieceOf_6 : decode cX11_pieceOf 6 = .ok (.iload_n 1, 1) := dk_27 (dk_at dksX11_pieceOf_0 6 rfl rfl)
theorem dX11_pieceOf_7 : decode cX11_pieceOf 7 = .ok (.imul, 1) := dk_104 (dk_at dksX11_pieceOf_0 7 rfl rfl)
theorem dX11_pieceOf_8 : decode cX11_pieceOf 8 = .ok (.istore 5, 2) := dk_54 5 (dk_at dksX11_pieceOf_0 8 rfl rfl)
theorem dX11_pieceOf_10 : decode cX11_pieceOf 10 = .ok (.iload 5, 2) := dk_21 5 (dk_at dksX11_pieceOf_0 10 rfl rfl)
theorem dX11_pieceOf_12 : decode cX11_pieceOf 12 = .ok (.sipush 720, 3) := dk_17 2 208 (dk_at dksX11_pieceOf_0 12 rfl rfl)
theorem dX11_pieceOf_15 : decode cX11_pieceOf 15 = .ok (.iload_n 1, 1) := dk_27 (dk_at dksX11_pieceOf_0 15 rfl rfl)
theorem dX11_pieceOf_16 : decode cX11_pieceOf 16 = .ok (.imul, 1) := dk_104 (dk_at dksX11_pieceOf_0 16 rfl rfl)
theorem dX11_pieceOf_17 : decode cX11_pieceOf 17 = .ok (.aload_n 0, 1) := dk_42 (dk_at dksX11_pieceOf_0 17 rfl rfl)
theorem dX11_pieceOf_18 : decode cX11_pieceOf 18 = .ok (.getfield 57, 3) := dk_180 0 57 (dk_at dksX11_pieceOf_0 18 rfl rfl)
theorem dX11_pieceOf_21 : decode cX11_pieceOf 21 = .ok (.iload_n 1, 1) := dk_27 (dk_at dksX11_pieceOf_0 21 rfl rfl)
theorem dX11_pieceOf_22 : decode cX11_pieceOf 22 = .ok (.iaload, 1) := dk_46 (dk_at dksX11_pieceOf_0 22 rfl rfl)
theorem dX11_pieceOf_23 : decode cX11_pieceOf 23 = .ok (.iadd, 1) := dk_96 (dk_at dksX11_pieceOf_0 23 rfl rfl)
theorem dX11_pieceOf_24 : decode cX11_pieceOf 24 = .ok (.if_icmp .ge 40, 3) := dk_162 0 40 (dk_at dksX11_pieceOf_1 0 rfl rfl)
theorem dX11_pieceOf_27 : decode cX11_pieceOf 27 = .ok (.aload_n 0, 1) := dk_42 (dk_at dksX11_pieceOf_1 3 rfl rfl)
theorem dX11_pieceOf_28 : decode cX11_pieceOf 28 = .ok (.getfield 60, 3) := dk_180 0 60 (dk_at dksX11_pieceOf_1 4 rfl rfl)
theorem dX11_pieceOf_31 : decode cX11_pieceOf 31 = .ok (.iload 5, 2) := dk_21 5 (dk_at dksX11_pieceOf_1 7 rfl rfl)
theorem dX11_pieceOf_33 : decode cX11_pieceOf 33 = .ok (.iaload, 1) := dk_46 (dk_at dksX11_pieceOf_1 9 rfl rfl)
theorem dX11_pieceOf_34 : decode cX11_pieceOf 34 = .ok (.iload_n 2, 1) := dk_28 (dk_at dksX11_pieceOf_1 10 rfl rfl)
theorem dX11_pieceOf_35 : decode cX11_pieceOf 35 = .ok (.if_icmp .ne 19, 3) := dk_160 0 19 (dk_at dksX11_pieceOf_1 11 rfl rfl)
theorem dX11_pieceOf_38 : decode cX11_pieceOf 38 = .ok (.aload_n 0, 1) := dk_42 (dk_at dksX11_pieceOf_1 14 rfl rfl)
theorem dX11_pieceOf_39 : decode cX11_pieceOf 39 = .ok (.getfield 63, 3) := dk_180 0 63 (dk_at dksX11_pieceOf_1 15 rfl rfl)
theorem dX11_pieceOf_42 : decode cX11_pieceOf 42 = .ok (.iload 5, 2) := dk_21 5 (dk_at dksX11_pieceOf_1 18 rfl rfl)
theorem dX11_pieceOf_44 : decode cX11_pieceOf 44 = .ok (.iaload, 1) := dk_46 (dk_at dksX11_pieceOf_1 20 rfl rfl)
theorem dX11_pieceOf_45 : decode cX11_pieceOf 45 = .ok (.iload_n 3, 1) := dk_29 (dk_at dksX11_pieceOf_1 21 rfl rfl)
theorem dX11_pieceOf_46 : decode cX11_pieceOf 46 = .ok (.if_icmp .ne 8, 3) := dk_160 0 8 (dk_at dksX11_pieceOf_2 0 rfl rfl)
theorem dX11_pieceOf_49 : decode cX11_pieceOf 49 = .ok (.iload 5, 2) := dk_21 5 (dk_at dksX11_pieceOf_2 3 rfl rfl)
theorem dX11_pieceOf_51 : decode cX11_pieceOf 51 = .ok (.goto 5, 3) := dk_167 0 5 (dk_at dksX11_pieceOf_2 5 rfl rfl)
theorem dX11_pieceOf_54 : decode cX11_pieceOf 54 = .ok (.iload 4, 2) := dk_21 4 (dk_at dksX11_pieceOf_2 8 rfl rfl)
theorem dX11_pieceOf_56 : decode cX11_pieceOf 56 = .ok (.istore 4, 2) := dk_54 4 (dk_at dksX11_pieceOf_2 10 rfl rfl)
theorem dX11_pieceOf_58 : decode cX11_pieceOf 58 = .ok (.iinc 5 1, 3) := dk_132 5 1 (dk_at dksX11_pieceOf_2 12 rfl rfl)
theorem dX11_pieceOf_61 : decode cX11_pieceOf 61 = .ok (.goto (-51), 3) := dk_167 255 205 (dk_at dksX11_pieceOf_2 15 rfl rfl)
theorem dX11_pieceOf_64 : decode cX11_pieceOf 64 = .ok (.iload 4, 2) := dk_21 4 (dk_at dksX11_pieceOf_2 18 rfl rfl)
theorem dX11_pieceOf_66 : decode cX11_pieceOf 66 = .ok (.ireturn, 1) := dk_172 (dk_at dksX11_pieceOf_2 20 rfl rfl)
abbrev cX11_dropEntry : ByteArray := prog_12_method_11_code
def yX11_dropEntry : MethodName := ⟨RX11, "dropEntry", "(II)V"⟩
def dkwX11_dropEntry_2 : List UInt8 := [180, 0, 42, 28, 42, 180, 0, 42, 29, 46, 79, 177]
abbrev dktX11_dropEntry_2 : List UInt8 := dkwX11_dropEntry_2 ++ []
def dkwX11_dropEntry_1 : List UInt8 := [180, 0, 35, 28, 42, 180, 0, 35, 29, 46, 79, 42, 180, 0, 38, 28, 42, 180, 0, 38, 29, 47, 80, 42]
abbrev dktX11_dropEntry_1 : List UInt8 := dkwX11_dropEntry_1 ++ dktX11_dropEntry_2
def dkwX11_dropEntry_0 : List UInt8 := [42, 180, 0, 32, 27, 92, 46, 4, 100, 79, 17, 2, 188, 27, 104, 42, 180, 0, 32, 27, 46, 96, 62, 42]
abbrev dktX11_dropEntry_0 : List UInt8 := dkwX11_dropEntry_0 ++ dktX11_dropEntry_1
theorem dksX11_dropEntry_0 : cX11_dropEntry.data.toList.drop 0 = dktX11_dropEntry_0 := by decide +kernel
theorem dksX11_dropEntry_1 : cX11_dropEntry.data.toList.drop 24 = dktX11_dropEntry_1 := dk_seg dksX11_dropEntry_0 24 rfl rfl
theorem dksX11_dropEntry_2 : cX11_dropEntry.data.toList.drop 48 = dktX11_dropEntry_2 := dk_seg dksX11_dropEntry_1 24 rfl rfl
theorem dX11_dropEntry_0 : decode cX11_dropEntry 0 = .ok (.aload_n 0, 1) := dk_42 (dk_at dksX11_dropEntry_0 0 rfl rfl)
theorem dX11_dropEntry_1 : decode cX11_dropEntry 1 = .ok (.getfield 32, 3) := dk_180 0 32 (dk_at dksX11_dropEntry_0 1 rfl rfl)
theorem dX11_dropEntry_4 : decode cX11_dropEntry 4 = .ok (.iload_n 1, 1) := dk_27 (dk_at dksX11_dropEntry_0 4 rfl rfl)
theorem dX11_dropEntry_5 : decode cX11_dropEntry 5 = .ok (.dup2, 1) := dk_92 (dk_at dksX11_dropEntry_0 5 rfl rfl)
theorem dX11_dropEntry_6 : decode cX11_dropEntry 6 = .ok (.iaload, 1) := dk_46 (dk_at dksX11_dropEntry_0 6 rfl rfl)
theorem dX11_dropEntry_7 : decode cX11_dropEntry 7 = .ok (.iconst 1, 1) := dk_4 (dk_at dksX11_dropEntry_0 7 rfl rfl)
theorem dX11_dropEntry_8 : decode cX11_dropEntry 8 = .ok (.isub, 1) := dk_100 (dk_at dksX11_dropEntry_0 8 rfl rfl)
theorem dX11_dropEntry_9 : decode cX11_dropEntry 9 = .ok (.iastore, 1) := dk_79 (dk_at dksX11_dropEntry_0 9 rfl rfl)
theorem dX11_dropEntry_10 : decode cX11_dropEntry 10 = .ok (.sipush 700, 3) := dk_17 2 188 (dk_at dksX11_dropEntry_0 10 rfl rfl)
theorem dX11_dropEntry_13 : decode cX11_dropEntry 13 = .ok (.iload_n 1, 1) := dk_27 (dk_at dksX11_dropEntry_0 13 rfl rfl)
theorem dX11_dropEntry_14 : decode cX11_dropEntry 14 = .ok (.imul, 1) := dk_104 (dk_at dksX11_dropEntry_0 14 rfl rfl)
theorem dX11_dropEntry_15 : decode cX11_dropEntry 15 = .ok (.aload_n 0, 1) := dk_42 (dk_at dksX11_dropEntry_0 15 rfl rfl)
theorem dX11_dropEntry_16 : decode cX11_dropEntry 16 = .ok (.getfield 32, 3) := dk_180 0 32 (dk_at dksX11_dropEntry_0 16 rfl rfl)
theorem dX11_dropEntry_19 : decode cX11_dropEntry 19 = .ok (.iload_n 1, 1) := dk_27 (dk_at dksX11_dropEntry_0 19 rfl rfl)
theorem dX11_dropEntry_20 : decode cX11_dropEntry 20 = .ok (.iaload, 1) := dk_46 (dk_at dksX11_dropEntry_0 20 rfl rfl)
theorem dX11_dropEntry_21 : decode cX11_dropEntry 21 = .ok (.iadd, 1) := dk_96 (dk_at dksX11_dropEntry_0 21 rfl rfl)
theorem dX11_dropEntry_22 : decode cX11_dropEntry 22 = .ok (.istore_n 3, 1) := dk_62 (dk_at dksX11_dropEntry_0 22 rfl rfl)
theorem dX11_dropEntry_23 : decode cX11_dropEntry 23 = .ok (.aload_n 0, 1) := dk_42 (dk_at dksX11_dropEntry_0 23 rfl rfl)
theorem dX11_dropEntry_24 : decode cX11_dropEntry 24 = .ok (.getfield 35, 3) := dk_180 0 35 (dk_at dksX11_dropEntry_1 0 rfl rfl)
theorem dX11_dropEntry_27 : decode cX11_dropEntry 27 = .ok (.iload_n 2, 1) := dk_28 (dk_at dksX11_dropEntry_1 3 rfl rfl)
theorem dX11_dropEntry_28 : decode cX11_dropEntry 28 = .ok (.aload_n 0, 1) := dk_42 (dk_at dksX11_dropEntry_1 4 rfl rfl)
theorem dX11_dropEntry_29 : decode cX11_dropEntry 29 = .ok (.getfield 35, 3) := dk_180 0 35 (dk_at dksX11_dropEntry_1 5 rfl rfl)
theorem dX11_dropEntry_32 : decode cX11_dropEntry 32 = .ok (.iload_n 3, 1) := dk_29 (dk_at dksX11_dropEntry_1 8 rfl rfl)
theorem dX11_dropEntry_33 : decode cX11_dropEntry 33 = .ok (.iaload, 1) := dk_46 (dk_at dksX11_dropEntry_1 9 rfl rfl)
theorem dX11_dropEntry_34 : decode cX11_dropEntry 34 = .ok (.iastore, 1) := dk_79 (dk_at dksX11_dropEntry_1 10 rfl rfl)
theorem dX11_dropEntry_35 : decode cX11_dropEntry 35 = .ok (.aload_n 0, 1) := dk_42 (dk_at dksX11_dropEntry_1 11 rfl rfl)
theorem dX11_dropEntry_36 : decode cX11_dropEntry 36 = .ok (.getfield 38, 3) := dk_180 0 38 (dk_at dksX11_dropEntry_1 12 rfl rfl)
theorem dX11_dropEntry_39 : decode cX11_dropEntry 39 = .ok (.iload_n 2, 1) := dk_28 (dk_at dksX11_dropEntry_1 15 rfl rfl)
theorem dX11_dropEntry_40 : decode cX11_dropEntry 40 = .ok (.aload_n 0, 1) := dk_42 (dk_at dksX11_dropEntry_1 16 rfl rfl)
theorem dX11_dropEntry_41 : decode cX11_dropEntry 41 = .ok (.getfield 38, 3) := dk_180 0 38 (dk_at dksX11_dropEntry_1 17 rfl rfl)
theorem dX11_dropEntry_44 : decode cX11_dropEntry 44 = .ok (.iload_n 3, 1) := dk_29 (dk_at dksX11_dropEntry_1 20 rfl rfl)
theorem dX11_dropEntry_45 : decode cX11_dropEntry 45 = .ok (.laload, 1) := dk_47 (dk_at dksX11_dropEntry_1 21 rfl rfl)
theorem dX11_dropEntry_46 : decode cX11_dropEntry 46 = .ok (.lastore, 1) := dk_80 (dk_at dksX11_dropEntry_1 22 rfl rfl)
theorem dX11_dropEntry_47 : decode cX11_dropEntry 47 = .ok (.aload_n 0, 1) := dk_42 (dk_at dksX11_dropEntry_1 23 rfl rfl)
theorem dX11_dropEntry_48 : decode cX11_dropEntry 48 = .ok (.getfield 42, 3) := dk_180 0 42 (dk_at dksX11_dropEntry_2 0 rfl rfl)
theorem dX11_dropEntry_51 : decode cX11_dropEntry 51 = .ok (.iload_n 2, 1) := dk_28 (dk_at dksX11_dropEntry_2 3 rfl rfl)
theorem dX11_dropEntry_52 : decode cX11_dropEntry 52 = .ok (.aload_n 0, 1) := dk_42 (dk_at dksX11_dropEntry_2 4 rfl rfl)
theorem dX11_dropEntry_53 : decode cX11_dropEntry 53 = .ok (.getfield 42, 3) := dk_180 0 42 (dk_at dksX11_dropEntry_2 5 rfl rfl)
theorem dX11_dropEntry_56 : decode cX11_dropEntry 56 = .ok (.iload_n 3, 1) := dk_29 (dk_at dksX11_dropEntry_2 8 rfl rfl)
theorem dX11_dropEntry_57 : decode cX11_dropEntry 57 = .ok (.iaload, 1) := dk_46 (dk_at dksX11_dropEntry_2 9 rfl rfl)
theorem dX11_dropEntry_58 : decode cX11_dropEntry 58 = .ok (.iastore, 1) := dk_79 (dk_at dksX11_dropEntry_2 10 rfl rfl)
theorem dX11_dropEntry_59 : decode cX11_dropEntry 59 = .ok (.return_, 1) := dk_177 (dk_at dksX11_dropEntry_2 11 rfl rfl)
abbrev cX11_dropNode : ByteArray := prog_12_method_6_code
def yX11_dropNode : MethodName := ⟨RX11, "dropNode", "(II)V"⟩
def dkwX11_dropNode_5 : List UInt8 := [180, 0, 29, 29, 42, 180, 0, 29, 21, 5, 46, 79, 177]
abbrev dktX11_dropNode_5 : List UInt8 := dkwX11_dropNode_5 ++ []
def dkwX11_dropNode_4 : List UInt8 := [42, 180, 0, 23, 21, 5, 46, 79, 42, 180, 0, 26, 29, 42, 180, 0, 26, 21, 5, 46, 79, 42]
abbrev dktX11_dropNode_4 : List UInt8 := dkwX11_dropNode_4 ++ dktX11_dropNode_5
def dkwX11_dropNode_3 : List UInt8 := [92, 46, 4, 100, 79, 17, 2, 188, 27, 104, 42, 180, 0, 20, 27, 46, 96, 54, 5, 42, 180, 0, 23, 29]
abbrev dktX11_dropNode_3 : List UInt8 := dkwX11_dropNode_3 ++ dktX11_dropNode_4
def dkwX11_dropNode_2 : List UInt8 := [160, 0, 13, 42, 27, 21, 4, 182, 0, 151, 167, 255, 221, 132, 4, 1, 167, 255, 215, 42, 180, 0, 20, 27]
abbrev dktX11_dropNode_2 : List UInt8 := dkwX11_dropNode_2 ++ dktX11_dropNode_3
def dkwX11_dropNode_1 : List UInt8 := [17, 2, 188, 27, 104, 42, 180, 0, 45, 27, 46, 96, 162, 0, 30, 42, 180, 0, 48, 21, 4, 46, 28]
abbrev dktX11_dropNode_1 : List UInt8 := dkwX11_dropNode_1 ++ dktX11_dropNode_2
def dkwX11_dropNode_0 : List UInt8 := [42, 27, 28, 182, 0, 143, 62, 42, 27, 28, 3, 182, 0, 147, 17, 2, 188, 27, 104, 54, 4, 21, 4]
abbrev dktX11_dropNode_0 : List UInt8 := dkwX11_dropNode_0 ++ dktX11_dropNode_1
theorem dksX11_dropNode_0 : cX11_dropNode.data.toList.drop 0 = dktX11_dropNode_0 := by decide +kernel
theorem dksX11_dropNode_1 : cX11_dropNode.data.toList.drop 23 = dktX11_dropNode_1 := dk_seg dksX11_dropNode_0 23 rfl rfl
theorem dksX11_dropNode_2 : cX11_dropNode.data.toList.drop 46 = dktX11_dropNode_2 := dk_seg dksX11_dropNode_1 23 rfl rfl
theorem dksX11_dropNode_3 : cX11_dropNode.data.toList.drop 70 = dktX11_dropNode_3 := dk_seg dksX11_dropNode_2 24 rfl rfl
theorem dksX11_dropNode_4 : cX11_dropNode.data.toList.drop 94 = dktX11_dropNode_4 := dk_seg dksX11_dropNode_3 24 rfl rfl
theorem dksX11_dropNode_5 : cX11_dropNode.data.toList.drop 116 = dktX11_dropNode_5 := dk_seg dksX11_dropNode_4 22 rfl rfl
theorem dX11_dropNode_0 : decode cX11_dropNode 0 = .ok (.aload_n 0, 1) := dk_42 (dk_at dksX11_dropNode_0 0 rfl rfl)
theorem dX11_dropNode_1 : decode cX11_dropNode 1 = .ok (.iload_n 1, 1) := dk_27 (dk_at dksX11_dropNode_0 1 rfl rfl)
theorem dX11_dropNode_2 : decode cX11_dropNode 2 = .ok (.iload_n 2, 1) := dk_28 (dk_at dksX11_dropNode_0 2 rfl rfl)
theorem dX11_dropNode_3 : decode cX11_dropNode 3 = .ok (.invokevirtual 143, 3) := dk_182 0 143 (dk_at dksX11_dropNode_0 3 rfl rfl)
theorem dX11_dropNode_6 : decode cX11_dropNode 6 = .ok (.istore_n 3, 1) := dk_62 (dk_at dksX11_dropNode_0 6 rfl rfl)
theorem dX11_dropNode_7 : decode cX11_dropNode 7 = .ok (.aload_n 0, 1) := dk_42 (dk_at dksX11_dropNode_0 7 rfl rfl)
theorem dX11_dropNode_8 : decode cX11_dropNode 8 = .ok (.iload_n 1, 1) := dk_27 (dk_at dksX11_dropNode_0 8 rfl rfl)
theorem dX11_dropNode_9 : decode cX11_dropNode 9 = .ok (.iload_n 2, 1) := dk_28 (dk_at dksX11_dropNode_0 9 rfl rfl)
theorem dX11_dropNode_10 : decode cX11_dropNode 10 = .ok (.iconst 0, 1) := dk_3 (dk_at dksX11_dropNode_0 10 rfl rfl)
theorem dX11_dropNode_11 : decode cX11_dropNode 11 = .ok (.invokevirtual 147, 3) := dk_182 0 147 (dk_at dksX11_dropNode_0 11 rfl rfl)
theorem dX11_dropNode_14 : decode cX11_dropNode 14 = .ok (.sipush 700, 3) := dk_17 2 188 (dk_at dksX11_dropNode_0 14 rfl rfl)
theorem dX11_dropNode_17 : decode cX11_dropNode 17 = .ok (.iload_n 1, 1) := dk_27 (dk_at dksX11_dropNode_0 17 rfl rfl)
theorem dX11_dropNode_18 : decode cX11_dropNode 18 = .ok (.imul, 1) := dk_104 (dk_at dksX11_dropNode_0 18 rfl rfl)
theorem dX11_dropNode_19 : decode cX11_dropNode 19 = .ok (.istore 4, 2) := dk_54 4 (dk_at dksX11_dropNode_0 19 rfl rfl)
theorem dX11_dropNode_21 : decode cX11_dropNode 21 = .ok (.iload 4, 2) := dk_21 4 (dk_at dksX11_dropNode_0 21 rfl rfl)
theorem dX11_dropNode_23 : decode cX11_dropNode 23 = .ok (.sipush 700, 3) := dk_17 2 188 (dk_at dksX11_dropNode_1 0 rfl rfl)
theorem dX11_dropNode_26 : decode cX11_dropNode 26 = .ok (.iload_n 1, 1) := dk_27 (dk_at dksX11_dropNode_1 3 rfl rfl)
theorem dX11_dropNode_27 : decode cX11_dropNode 27 = .ok (.imul, 1) := dk_104 (dk_at dksX11_dropNode_1 4 rfl rfl)
theorem dX11_dropNode_28 : decode cX11_dropNode 28 = .ok (.aload_n 0, 1) := dk_42 (dk_at dksX11_dropNode_1 5 rfl rfl)
theorem dX11_dropNode_29 : decode cX11_dropNode 29 = .ok (.getfield 45, 3) := dk_180 0 45 (dk_at dksX11_dropNode_1 6 rfl rfl)
theorem dX11_dropNode_32 : decode cX11_dropNode 32 = .ok (.iload_n 1, 1) := dk_27 (dk_at dksX11_dropNode_1 9 rfl rfl)
theorem dX11_dropNode_33 : decode cX11_dropNode 33 = .ok (.iaload, 1) := dk_46 (dk_at dksX11_dropNode_1 10 rfl rfl)
theorem dX11_dropNode_34 : decode cX11_dropNode 34 = .ok (.iadd, 1) := dk_96 (dk_at dksX11_dropNode_1 11 rfl rfl)
theorem dX11_dropNode_35 : decode cX11_dropNode 35 = .ok (.if_icmp .ge 30, 3) := dk_162 0 30 (dk_at dksX11_dropNode_1 12 rfl rfl)
theorem dX11_dropNode_38 : decode cX11_dropNode 38 = .ok (.aload_n 0, 1) := dk_42 (dk_at dksX11_dropNode_1 15 rfl rfl)
theorem dX11_dropNode_39 : decode cX11_dropNode 39 = .ok (.getfield 48, 3) := dk_180 0 48 (dk_at dksX11_dropNode_1 16 rfl rfl)
theorem dX11_dropNode_42 : decode cX11_dropNode 42 = .ok (.iload 4, 2) := dk_21 4 (dk_at dksX11_dropNode_1 19 rfl rfl)
theorem dX11_dropNode_44 : decode cX11_dropNode 44 = .ok (.iaload, 1) := dk_46 (dk_at dksX11_dropNode_1 21 rfl rfl)
theorem dX11_dropNode_45 : decode cX11_dropNode 45 = .ok (.iload_n 2, 1) := dk_28 (dk_at dksX11_dropNode_1 22 rfl rfl)
theorem dX11_dropNode_46 : decode cX11_dropNode 46 = .ok (.if_icmp .ne 13, 3) := dk_160 0 13 (dk_at dksX11_dropNode_2 0 rfl rfl)
theorem dX11_dropNode_49 : decode cX11_dropNode 49 = .ok (.aload_n 0, 1) := dk_42 (dk_at dksX11_dropNode_2 3 rfl rfl)
theorem dX11_dropNode_50 : decode cX11_dropNode 50 = .ok (.iload_n 1, 1) := dk_27 (dk_at dksX11_dropNode_2 4 rfl rfl)
theorem dX11_dropNode_51 : decode cX11_dropNode 51 = .ok (.iload 4, 2) := dk_21 4 (dk_at dksX11_dropNode_2 5 rfl rfl)
theorem dX11_dropNode_53 : decode cX11_dropNode 53 = .ok (.invokevirtual 151, 3) := dk_182 0 151 (dk_at dksX11_dropNode_2 7 rfl rfl)
theorem dX11_dropNode_56 : decode cX11_dropNode 56 = .ok (.goto (-35), 3) := dk_167 255 221 (dk_at dksX11_dropNode_2 10 rfl rfl)
theorem dX11_dropNode_59 : decode cX11_dropNode 59 = .ok (.iinc 4 1, 3) := dk_132 4 1 (dk_at dksX11_dropNode_2 13 rfl rfl)
theorem dX11_dropNode_62 : decode cX11_dropNode 62 = .ok (.goto (-41), 3) := dk_167 255 215 (dk_at dksX11_dropNode_2 16 rfl rfl)
theorem dX11_dropNode_65 : decode cX11_dropNode 65 = .ok (.aload_n 0, 1) := dk_42 (dk_at dksX11_dropNode_2 19 rfl rfl)
theorem dX11_dropNode_66 : decode cX11_dropNode 66 = .ok (.getfield 20, 3) := dk_180 0 20 (dk_at dksX11_dropNode_2 20 rfl rfl)
theorem dX11_dropNode_69 : decode cX11_dropNode 69 = .ok (.iload_n 1, 1) := dk_27 (dk_at dksX11_dropNode_2 23 rfl rfl)
theorem dX11_dropNode_70 : decode cX11_dropNode 70 = .ok (.dup2, 1) := dk_92 (dk_at dksX11_dropNode_3 0 rfl rfl)
theorem dX11_dropNode_71 : decode cX11_dropNode 71 = .ok (.iaload, 1) := dk_46 (dk_at dksX11_dropNode_3 1 rfl rfl)
theorem dX11_dropNode_72 : decode cX11_dropNode 72 = .ok (.iconst 1, 1) := dk_4 (dk_at dksX11_dropNode_3 2 rfl rfl)
theorem dX11_dropNode_73 : decode cX11_dropNode 73 = .ok (.isub, 1) := dk_100 (dk_at dksX11_dropNode_3 3 rfl rfl)
theorem dX11_dropNode_74 : decode cX11_dropNode 74 = .ok (.iastore, 1) := dk_79 (dk_at dksX11_dropNode_3 4 rfl rfl)
theorem dX11_dropNode_75 : decode cX11_dropNode 75 = .ok (.sipush 700, 3) := dk_17 2 188 (dk_at dksX11_dropNode_3 5 rfl rfl)
theorem dX11_dropNode_78 : decode cX11_dropNode 78 = .ok (.iload_n 1, 1) := dk_27 (dk_at dksX11_dropNode_3 8 rfl rfl)
theorem dX11_dropNode_79 : decode cX11_dropNode 79 = .ok (.imul, 1) := dk_104 (dk_at dksX11_dropNode_3 9 rfl rfl)
theorem dX11_dropNode_80 : decode cX11_dropNode 80 = .ok (.aload_n 0, 1) := dk_42 (dk_at dksX11_dropNode_3 10 rfl rfl)
theorem dX11_dropNode_81 : decode cX11_dropNode 81 = .ok (.getfield 20, 3) := dk_180 0 20 (dk_at dksX11_dropNode_3 11 rfl rfl)
theorem dX11_dropNode_84 : decode cX11_dropNode 84 = .ok (.iload_n 1, 1) := dk_27 (dk_at dksX11_dropNode_3 14 rfl rfl)
theorem dX11_dropNode_85 : decode cX11_dropNode 85 = .ok (.iaload, 1) := dk_46 (dk_at dksX11_dropNode_3 15 rfl rfl)
theorem dX11_dropNode_86 : decode cX11_dropNode 86 = .ok (.iadd, 1) := dk_96 (dk_at dksX11_dropNode_3 16 rfl rfl)
theorem dX11_dropNode_87 : decode cX11_dropNode 87 = .ok (.istore 5, 2) := dk_54 5 (dk_at dksX11_dropNode_3 17 rfl rfl)
theorem dX11_dropNode_89 : decode cX11_dropNode 89 = .ok (.aload_n 0, 1) := dk_42 (dk_at dksX11_dropNode_3 19 rfl rfl)
theorem dX11_dropNode_90 : decode cX11_dropNode 90 = .ok (.getfield 23, 3) := dk_180 0 23 (dk_at dksX11_dropNode_3 20 rfl rfl)
theorem dX11_dropNode_93 : decode cX11_dropNode 93 = .ok (.iload_n 3, 1) := dk_29 (dk_at dksX11_dropNode_3 23 rfl rfl)
theorem dX11_dropNode_94 : decode cX11_dropNode 94 = .ok (.aload_n 0, 1) := dk_42 (dk_at dksX11_dropNode_4 0 rfl rfl)
theorem dX11_dropNode_95 : decode cX11_dropNode 95 = .ok (.getfield 23, 3) := dk_180 0 23 (dk_at dksX11_dropNode_4 1 rfl rfl)
theorem dX11_dropNode_98 : decode cX11_dropNode 98 = .ok (.iload 5, 2) := dk_21 5 (dk_at dksX11_dropNode_4 4 rfl rfl)
theorem dX11_dropNode_100 : decode cX11_dropNode 100 = .ok (.iaload, 1) := dk_46 (dk_at dksX11_dropNode_4 6 rfl rfl)
theorem dX11_dropNode_101 : decode cX11_dropNode 101 = .ok (.iastore, 1) := dk_79 (dk_at dksX11_dropNode_4 7 rfl rfl)
theorem dX11_dropNode_102 : decode cX11_dropNode 102 = .ok (.aload_n 0, 1) := dk_42 (dk_at dksX11_dropNode_4 8 rfl rfl)
theorem dX11_dropNode_103 : decode cX11_dropNode 103 = .ok (.getfield 26, 3) := dk_180 0 26 (dk_at dksX11_dropNode_4 9 rfl rfl)
theorem dX11_dropNode_106 : decode cX11_dropNode 106 = .ok (.iload_n 3, 1) := dk_29 (dk_at dksX11_dropNode_4 12 rfl rfl)
theorem dX11_dropNode_107 : decode cX11_dropNode 107 = .ok (.aload_n 0, 1) := dk_42 (dk_at dksX11_dropNode_4 13 rfl rfl)
theorem dX11_dropNode_108 : decode cX11_dropNode 108 = .ok (.getfield 26, 3) := dk_180 0 26 (dk_at dksX11_dropNode_4 14 rfl rfl)
theorem dX11_dropNode_111 : decode cX11_dropNode 111 = .ok (.iload 5, 2) := dk_21 5 (dk_at dksX11_dropNode_4 17 rfl rfl)
theorem dX11_dropNode_113 : decode cX11_dropNode 113 = .ok (.iaload, 1) := dk_46 (dk_at dksX11_dropNode_4 19 rfl rfl)
theorem dX11_dropNode_114 : decode cX11_dropNode 114 = .ok (.iastore, 1) := dk_79 (dk_at dksX11_dropNode_4 20 rfl rfl)
theorem dX11_dropNode_115 : decode cX11_dropNode 115 = .ok (.aload_n 0, 1) := dk_42 (dk_at dksX11_dropNode_4 21 rfl rfl)
theorem dX11_dropNode_116 : decode cX11_dropNode 116 = .ok (.getfield 29, 3) := dk_180 0 29 (dk_at dksX11_dropNode_5 0 rfl rfl)
theorem dX11_dropNode_119 : decode cX11_dropNode 119 = .ok (.iload_n 3, 1) := dk_29 (dk_at dksX11_dropNode_5 3 rfl rfl)
theorem dX11_dropNode_120 : decode cX11_dropNode 120 = .ok (.aload_n 0, 1) := dk_42 (dk_at dksX11_dropNode_5 4 rfl rfl)
theorem dX11_dropNode_121 : decode cX11_dropNode 121 = .ok (.getfield 29, 3) := dk_180 0 29 (dk_at dksX11_dropNode_5 5 rfl rfl)
theorem dX11_dropNode_124 : decode cX11_dropNode 124 = .ok (.iload 5, 2) := dk_21 5 (dk_at dksX11_dropNode_5 8 rfl rfl)
theorem dX11_dropNode_126 : decode cX11_dropNode 126 = .ok (.iaload, 1) := dk_46 (dk_at dksX11_dropNode_5 10 rfl rfl)
theorem dX11_dropNode_127 : decode cX11_dropNode 127 = .ok (.iastore, 1) := dk_79 (dk_at dksX11_dropNode_5 11 rfl rfl)
theorem dX11_dropNode_128 : decode cX11_dropNode 128 = .ok (.return_, 1) := dk_177 (dk_at dksX11_dropNode_5 12 rfl rfl)
abbrev cX11_dropPieces : ByteArray := prog_12_method_5_code
def yX11_dropPieces : MethodName := ⟨RX11, "dropPieces", "(III)V"⟩
def dkwX11_dropPieces_6 : List UInt8 := [21, 5, 104, 21, 6, 96, 51, 84, 132, 6, 1, 167, 255, 220, 167, 255, 109, 132, 4, 1, 167, 255, 103, 177]
abbrev dktX11_dropPieces_6 : List UInt8 := dkwX11_dropPieces_6 ++ []
def dkwX11_dropPieces_5 : List UInt8 := [16, 64, 162, 0, 35, 42, 180, 0, 70, 16, 64, 21, 4, 104, 21, 6, 96, 42, 180, 0, 70, 16, 64]
abbrev dktX11_dropPieces_5 : List UInt8 := dkwX11_dropPieces_5 ++ dktX11_dropPieces_6
def dkwX11_dropPieces_4 : List UInt8 := [21, 5, 46, 79, 42, 180, 0, 66, 21, 4, 42, 180, 0, 66, 21, 5, 46, 79, 3, 54, 6, 21, 6]
abbrev dktX11_dropPieces_4 : List UInt8 := dkwX11_dropPieces_4 ++ dktX11_dropPieces_5
def dkwX11_dropPieces_3 : List UInt8 := [180, 0, 60, 21, 4, 42, 180, 0, 60, 21, 5, 46, 79, 42, 180, 0, 63, 21, 4, 42, 180, 0, 63]
abbrev dktX11_dropPieces_3 : List UInt8 := dkwX11_dropPieces_3 ++ dktX11_dropPieces_4
def dkwX11_dropPieces_2 : List UInt8 := [180, 0, 57, 27, 92, 46, 4, 100, 79, 17, 2, 208, 27, 104, 42, 180, 0, 57, 27, 46, 96, 54, 5, 42]
abbrev dktX11_dropPieces_2 : List UInt8 := dkwX11_dropPieces_2 ++ dktX11_dropPieces_3
def dkwX11_dropPieces_1 : List UInt8 := [42, 180, 0, 60, 21, 4, 46, 28, 160, 0, 125, 42, 180, 0, 63, 21, 4, 46, 29, 161, 0, 114, 42]
abbrev dktX11_dropPieces_1 : List UInt8 := dkwX11_dropPieces_1 ++ dktX11_dropPieces_2
def dkwX11_dropPieces_0 : List UInt8 := [17, 2, 208, 27, 104, 54, 4, 21, 4, 17, 2, 208, 27, 104, 42, 180, 0, 57, 27, 46, 96, 162, 0, 142]
abbrev dktX11_dropPieces_0 : List UInt8 := dkwX11_dropPieces_0 ++ dktX11_dropPieces_1
theorem dksX11_dropPieces_0 : cX11_dropPieces.data.toList.drop 0 = dktX11_dropPieces_0 := by decide +kernel
theorem dksX11_dropPieces_1 : cX11_dropPieces.data.toList.drop 24 = dktX11_dropPieces_1 := dk_seg dksX11_dropPieces_0 24 rfl rfl
theorem dksX11_dropPieces_2 : cX11_dropPieces.data.toList.drop 47 = dktX11_dropPieces_2 := dk_seg dksX11_dropPieces_1 23 rfl rfl
theorem dksX11_dropPieces_3 : cX11_dropPieces.data.toList.drop 71 = dktX11_dropPieces_3 := dk_seg dksX11_dropPieces_2 24 rfl rfl
theorem dksX11_dropPieces_4 : cX11_dropPieces.data.toList.drop 94 = dktX11_dropPieces_4 := dk_seg dksX11_dropPieces_3 23 rfl rfl
theorem dksX11_dropPieces_5 : cX11_dropPieces.data.toList.drop 117 = dktX11_dropPieces_5 := dk_seg dksX11_dropPieces_4 23 rfl rfl
theorem dksX11_dropPieces_6 : cX11_dropPieces.data.toList.drop 140 = dktX11_dropPieces_6 := dk_seg dksX11_dropPieces_5 23 rfl rfl
theorem dX11_dropPieces_0 : decode cX11_dropPieces 0 = .ok (.sipush 720, 3) := dk_17 2 208 (dk_at dksX11_dropPieces_0 0 rfl rfl)
theorem dX11_dropPieces_3 : decode cX11_dropPieces 3 = .ok (.iload_n 1, 1) := dk_27 (dk_at dksX11_dropPieces_0 3 rfl rfl)
theorem dX11_dropPieces_4 : decode cX11_dropPieces 4 = .ok (.imul, 1) := dk_104 (dk_at dksX11_dropPieces_0 4 rfl rfl)
theorem dX11_dropPieces_5 : decode cX11_dropPieces 5 = .ok (.istore 4, 2) := dk_54 4 (dk_at dksX11_dropPieces_0 5 rfl rfl)
theorem dX11_dropPieces_7 : decode cX11_dropPieces 7 = .ok (.iload 4, 2) := dk_21 4 (dk_at dksX11_dropPieces_0 7 rfl rfl)
theorem dX11_dropPieces_9 : decode cX11_dropPieces 9 = .ok (.sipush 720, 3) := dk_17 2 208 (dk_at dksX11_dropPieces_0 9 rfl rfl)
theorem dX11_dropPieces_12 : decode cX11_dropPieces 12 = .ok (.iload_n 1, 1) := dk_27 (dk_at dksX11_dropPieces_0 12 rfl rfl)
theorem dX11_dropPieces_13 : decode cX11_dropPieces 13 = .ok (.imul, 1) := dk_104 (dk_at dksX11_dropPieces_0 13 rfl rfl)
theorem dX11_dropPieces_14 : decode cX11_dropPieces 14 = .ok (.aload_n 0, 1) := dk_42 (dk_at dksX11_dropPieces_0 14 rfl rfl)
theorem dX11_dropPieces_15 : decode cX11_dropPieces 15 = .ok (.getfield 57, 3) := dk_180 0 57 (dk_at dksX11_dropPieces_0 15 rfl rfl)
theorem dX11_dropPieces_18 : decode cX11_dropPieces 18 = .ok (.iload_n 1, 1) := dk_27 (dk_at dksX11_dropPieces_0 18 rfl rfl)
theorem dX11_dropPieces_19 : decode cX11_dropPieces 19 = .ok (.iaload, 1) := dk_46 (dk_at dksX11_dropPieces_0 19 rfl rfl)
theorem dX11_dropPieces_20 : decode cX11_dropPieces 20 = .ok (.iadd, 1) := dk_96 (dk_at dksX11_dropPieces_0 20 rfl rfl)
theorem dX11_dropPieces_21 : decode cX11_dropPieces 21 = .ok (.if_icmp .ge 142, 3) := dk_162 0 142 (dk_at dksX11_dropPieces_0 21 rfl rfl)
theorem dX11_dropPieces_24 : decode cX11_dropPieces 24 = .ok (.aload_n 0, 1) := dk_42 (dk_at dksX11_dropPieces_1 0 rfl rfl)
theorem dX11_dropPieces_25 : decode cX11_dropPieces 25 = .ok (.getfield 60, 3) := dk_180 0 60 (dk_at dksX11_dropPieces_1 1 rfl rfl)
theorem dX11_dropPieces_28 : decode cX11_dropPieces 28 = .ok (.iload 4, 2) := dk_21 4 (dk_at dksX11_dropPieces_1 4 rfl rfl)
theorem dX11_dropPieces_30 : decode cX11_dropPieces 30 = .ok (.iaload, 1) := dk_46 (dk_at dksX11_dropPieces_1 6 rfl rfl)
theorem dX11_dropPieces_31 : decode cX11_dropPieces 31 = .ok (.iload_n 2, 1) := dk_28 (dk_at dksX11_dropPieces_1 7 rfl rfl)
theorem dX11_dropPieces_32 : decode cX11_dropPieces 32 = .ok (.if_icmp .ne 125, 3) := dk_160 0 125 (dk_at dksX11_dropPieces_1 8 rfl rfl)
theorem dX11_dropPieces_35 : decode cX11_dropPieces 35 = .ok (.aload_n 0, 1) := dk_42 (dk_at dksX11_dropPieces_1 11 rfl rfl)
theorem dX11_dropPieces_36 : decode cX11_dropPieces 36 = .ok (.getfield 63, 3) := dk_180 0 63 (dk_at dksX11_dropPieces_1 12 rfl rfl)
theorem dX11_dropPieces_39 : decode cX11_dropPieces 39 = .ok (.iload 4, 2) := dk_21 4 (dk_at dksX11_dropPieces_1 15 rfl rfl)
theorem dX11_dropPieces_41 : decode cX11_dropPieces 41 = .ok (.iaload, 1) := dk_46 (dk_at dksX11_dropPieces_1 17 rfl rfl)
theorem dX11_dropPieces_42 : decode cX11_dropPieces 42 = .ok (.iload_n 3, 1) := dk_29 (dk_at dksX11_dropPieces_1 18 rfl rfl)
theorem dX11_dropPieces_43 : decode cX11_dropPieces 43 = .ok (.if_icmp .lt 114, 3) := dk_161 0 114 (dk_at dksX11_dropPieces_1 19 rfl rfl)
theorem dX11_dropPieces_46 : decode cX11_dropPieces 46 = .ok (.aload_n 0, 1) := dk_42 (dk_at dksX11_dropPieces_1 22 rfl rfl)
theorem dX11_dropPieces_47 : decode cX11_dropPieces 47 = .ok (.getfield 57, 3) := dk_180 0 57 (dk_at dksX11_dropPieces_2 0 rfl rfl)
theorem dX11_dropPieces_50 : decode cX11_dropPieces 50 = .ok (.iload_n 1, 1) := dk_27 (dk_at dksX11_dropPieces_2 3 rfl rfl)
theorem dX11_dropPieces_51 : decode cX11_dropPieces 51 = .ok (.dup2, 1) := dk_92 (dk_at dksX11_dropPieces_2 4 rfl rfl)
theorem dX11_dropPieces_52 : decode cX11_dropPieces 52 = .ok (.iaload, 1) := dk_46 (dk_at dksX11_dropPieces_2 5 rfl rfl)
theorem dX11_dropPieces_53 : decode cX11_dropPieces 53 = .ok (.iconst 1, 1) := dk_4 (dk_at dksX11_dropPieces_2 6 rfl rfl)
theorem dX11_dropPieces_54 : decode cX11_dropPieces 54 = .ok (.isub, 1) := dk_100 (dk_at dksX11_dropPieces_2 7 rfl rfl)
theorem dX11_dropPieces_55 : decode cX11_dropPieces 55 = .ok (.iastore, 1) := dk_79 (dk_at dksX11_dropPieces_2 8 rfl rfl)
theorem dX11_dropPieces_56 : decode cX11_dropPieces 56 = .ok (.sipush 720, 3) := dk_17 2 208 (dk_at dksX11_dropPieces_2 9 rfl rfl)
theorem dX11_dropPieces_59 : decode cX11_dropPieces 59 = .ok (.iload_n 1, 1) := dk_27 (dk_at dksX11_dropPieces_2 12 rfl rfl)
theorem dX11_dropPieces_60 : decode cX11_dropPieces 60 = .ok (.imul, 1) := dk_104 (dk_at dksX11_dropPieces_2 13 rfl rfl)
theorem dX11_dropPieces_61 : decode cX11_dropPieces 61 = .ok (.aload_n 0, 1) := dk_42 (dk_at dksX11_dropPieces_2 14 rfl rfl)
theorem dX11_dropPieces_62 : decode cX11_dropPieces 62 = .ok (.getfield 57, 3) := dk_180 0 57 (dk_at dksX11_dropPieces_2 15 rfl rfl)
theorem dX11_dropPieces_65 : decode cX11_dropPieces 65 = .ok (.iload_n 1, 1) := dk_27 (dk_at dksX11_dropPieces_2 18 rfl rfl)
theorem dX11_dropPieces_66 : decode cX11_dropPieces 66 = .ok (.iaload, 1) := dk_46 (dk_at dksX11_dropPieces_2 19 rfl rfl)
theorem dX11_dropPieces_67 : decode cX11_dropPieces 67 = .ok (.iadd, 1) := dk_96 (dk_at dksX11_dropPieces_2 20 rfl rfl)
theorem dX11_dropPieces_68 : decode cX11_dropPieces 68 = .ok (.istore 5, 2) := dk_54 5 (dk_at dksX11_dropPieces_2 21 rfl rfl)
theorem dX11_dropPieces_70 : decode cX11_dropPieces 70 = .ok (.aload_n 0, 1) := dk_42 (dk_at dksX11_dropPieces_2 23 rfl rfl)
theorem dX11_dropPieces_71 : decode cX11_dropPieces 71 = .ok (.getfield 60, 3) := dk_180 0 60 (dk_at dksX11_dropPieces_3 0 rfl rfl)
theorem dX11_dropPieces_74 : decode cX11_dropPieces 74 = .ok (.iload 4, 2) := dk_21 4 (dk_at dksX11_dropPieces_3 3 rfl rfl)
theorem dX11_dropPieces_76 : decode cX11_dropPieces 76 = .ok (.aload_n 0, 1) := dk_42 (dk_at dksX11_dropPieces_3 5 rfl rfl)
theorem dX11_dropPieces_77 : decode cX11_dropPieces 77 = .ok (.getfield 60, 3) := dk_180 0 60 (dk_at dksX11_dropPieces_3 6 rfl rfl)
theorem dX11_dropPieces_80 : decode cX11_dropPieces 80 = .ok (.iload 5, 2) := dk_21 5 (dk_at dksX11_dropPieces_3 9 rfl rfl)
theorem dX11_dropPieces_82 : decode cX11_dropPieces 82 = .ok (.iaload, 1) := dk_46 (dk_at dksX11_dropPieces_3 11 rfl rfl)
theorem dX11_dropPieces_83 : decode cX11_dropPieces 83 = .ok (.iastore, 1) := dk_79 (dk_at dksX11_dropPieces_3 12 rfl rfl)
theorem dX11_dropPieces_84 : decode cX11_dropPieces 84 = .ok (.aload_n 0, 1) := dk_42 (dk_at dksX11_dropPieces_3 13 rfl rfl)
theorem dX11_dropPieces_85 : decode cX11_dropPieces 85 = .ok (.getfield 63, 3) := dk_180 0 63 (dk_at dksX11_dropPieces_3 14 rfl rfl)
theorem dX11_dropPieces_88 : decode cX11_dropPieces 88 = .ok (.iload 4, 2) := dk_21 4 (dk_at dksX11_dropPieces_3 17 rfl rfl)
theorem dX11_dropPieces_90 : decode cX11_dropPieces 90 = .ok (.aload_n 0, 1) := dk_42 (dk_at dksX11_dropPieces_3 19 rfl rfl)
theorem dX11_dropPieces_91 : decode cX11_dropPieces 91 = .ok (.getfield 63, 3) := dk_180 0 63 (dk_at dksX11_dropPieces_3 20 rfl rfl)
theorem dX11_dropPieces_94 : decode cX11_dropPieces 94 = .ok (.iload 5, 2) := dk_21 5 (dk_at dksX11_dropPieces_4 0 rfl rfl)
theorem dX11_dropPieces_96 : decode cX11_dropPieces 96 = .ok (.iaload, 1) := dk_46 (dk_at dksX11_dropPieces_4 2 rfl rfl)
theorem dX11_dropPieces_97 : decode cX11_dropPieces 97 = .ok (.iastore, 1) := dk_79 (dk_at dksX11_dropPieces_4 3 rfl rfl)
theorem dX11_dropPieces_98 : decode cX11_dropPieces 98 = .ok (.aload_n 0, 1) := dk_42 (dk_at dksX11_dropPieces_4 4 rfl rfl)
theorem dX11_dropPieces_99 : decode cX11_dropPieces 99 = .ok (.getfield 66, 3) := dk_180 0 66 (dk_at dksX11_dropPieces_4 5 rfl rfl)
theorem dX11_dropPieces_102 : decode cX11_dropPieces 102 = .ok (.iload 4, 2) := dk_21 4 (dk_at dksX11_dropPieces_4 8 rfl rfl)
theorem dX11_dropPieces_104 : decode cX11_dropPieces 104 = .ok (.aload_n 0, 1) := dk_42 (dk_at dksX11_dropPieces_4 10 rfl rfl)
theorem dX11_dropPieces_105 : decode cX11_dropPieces 105 = .ok (.getfield 66, 3) := dk_180 0 66 (dk_at dksX11_dropPieces_4 11 rfl rfl)
theorem dX11_dropPieces_108 : decode cX11_dropPieces 108 = .ok (.iload 5, 2) := dk_21 5 (dk_at dksX11_dropPieces_4 14 rfl rfl)
theorem dX11_dropPieces_110 : decode cX11_dropPieces 110 = .ok (.iaload, 1) := dk_46 (dk_at dksX11_dropPieces_4 16 rfl rfl)
theorem dX11_dropPieces_111 : decode cX11_dropPieces 111 = .ok (.iastore, 1) := dk_79 (dk_at dksX11_dropPieces_4 17 rfl rfl)
theorem dX11_dropPieces_112 : decode cX11_dropPieces 112 = .ok (.iconst 0, 1) := dk_3 (dk_at dksX11_dropPieces_4 18 rfl rfl)
theorem dX11_dropPieces_113 : decode cX11_dropPieces 113 = .ok (.istore 6, 2) := dk_54 6 (dk_at dksX11_dropPieces_4 19 rfl rfl)
theorem dX11_dropPieces_115 : decode cX11_dropPieces 115 = .ok (.iload 6, 2) := dk_21 6 (dk_at dksX11_dropPieces_4 21 rfl rfl)
theorem dX11_dropPieces_117 : decode cX11_dropPieces 117 = .ok (.bipush 64, 2) := dk_16 64 (dk_at dksX11_dropPieces_5 0 rfl rfl)
theorem dX11_dropPieces_119 : decode cX11_dropPieces 119 = .ok (.if_icmp .ge 35, 3) := dk_162 0 35 (dk_at dksX11_dropPieces_5 2 rfl rfl)
theorem dX11_dropPieces_122 : decode cX11_dropPieces 122 = .ok (.aload_n 0, 1) := dk_42 (dk_at dksX11_dropPieces_5 5 rfl rfl)
theorem dX11_dropPieces_123 : decode cX11_dropPieces 123 = .ok (.getfield 70, 3) := dk_180 0 70 (dk_at dksX11_dropPieces_5 6 rfl rfl)
theorem dX11_dropPieces_126 : decode cX11_dropPieces 126 = .ok (.bipush 64, 2) := dk_16 64 (dk_at dksX11_dropPieces_5 9 rfl rfl)
theorem dX11_dropPieces_128 : decode cX11_dropPieces 128 = .ok (.iload 4, 2) := dk_21 4 (dk_at dksX11_dropPieces_5 11 rfl rfl)
theorem dX11_dropPieces_130 : decode cX11_dropPieces 130 = .ok (.imul, 1) := dk_104 (dk_at dksX11_dropPieces_5 13 rfl rfl)
theorem dX11_dropPieces_131 : decode cX11_dropPieces 131 = .ok (.iload 6, 2) := dk_21 6 (dk_at dksX11_dropPieces_5 14 rfl rfl)
theorem dX11_dropPieces_133 : decode cX11_dropPieces 133 = .ok (.iadd, 1) := dk_96 (dk_at dksX11_dropPieces_5 16 rfl rfl)
theorem dX11_dropPieces_134 : decode cX11_dropPieces 134 = .ok (.aload_n 0, 1) := dk_42 (dk_at dksX11_dropPieces_5 17 rfl rfl)
theorem dX11_dropPieces_135 : decode cX11_dropPieces 135 = .ok (.getfield 70, 3) := dk_180 0 70 (dk_at dksX11_dropPieces_5 18 rfl rfl)
theorem dX11_dropPieces_138 : decode cX11_dropPieces 138 = .ok (.bipush 64, 2) := dk_16 64 (dk_at dksX11_dropPieces_5 21 rfl rfl)
theorem dX11_dropPieces_140 : decode cX11_dropPieces 140 = .ok (.iload 5, 2) := dk_21 5 (dk_at dksX11_dropPieces_6 0 rfl rfl)
theorem dX11_dropPieces_142 : decode cX11_dropPieces 142 = .ok (.imul, 1) := dk_104 (dk_at dksX11_dropPieces_6 2 rfl rfl)
theorem dX11_dropPieces_143 : decode cX11_dropPieces 143 = .ok (.iload 6, 2) := dk_21 6 (dk_at dksX11_dropPieces_6 3 rfl rfl)
theorem dX11_dropPieces_145 : decode cX11_dropPieces 145 = .ok (.iadd, 1) := dk_96 (dk_at dksX11_dropPieces_6 5 rfl rfl)
theorem dX11_dropPieces_146 : decode cX11_dropPieces 146 = .ok (.baload, 1) := dk_51 (dk_at dksX11_dropPieces_6 6 rfl rfl)
theorem dX11_dropPieces_147 : decode cX11_dropPieces 147 = .ok (.bastore, 1) := dk_84 (dk_at dksX11_dropPieces_6 7 rfl rfl)
theorem dX11_dropPieces_148 : decode cX11_dropPieces 148 = .ok (.iinc 6 1, 3) := dk_132 6 1 (dk_at dksX11_dropPieces_6 8 rfl rfl)
theorem dX11_dropPieces_151 : decode cX11_dropPieces 151 = .ok (.goto (-36), 3) := dk_167 255 220 (dk_at dksX11_dropPieces_6 11 rfl rfl)
theorem dX11_dropPieces_154 : decode cX11_dropPieces 154 = .ok (.goto (-147), 3) := dk_167 255 109 (dk_at dksX11_dropPieces_6 14 rfl rfl)
theorem dX11_dropPieces_157 : decode cX11_dropPieces 157 = .ok (.iinc 4 1, 3) := dk_132 4 1 (dk_at dksX11_dropPieces_6 17 rfl rfl)
theorem dX11_dropPieces_160 : decode cX11_dropPieces 160 = .ok (.goto (-153), 3) := dk_167 255 103 (dk_at dksX11_dropPieces_6 20 rfl rfl)
theorem dX11_dropPieces_163 : decode cX11_dropPieces 163 = .ok (.return_, 1) := dk_177 (dk_at dksX11_dropPieces_6 23 rfl rfl)
abbrev cX11_dropAttribute : ByteArray := prog_12_method_7_code
def yX11_dropAttribute : MethodName := ⟨RX11, "dropAttribute", "(II)V"⟩
def dkwX11_dropAttribute_2 : List UInt8 := [180, 0, 54, 28, 42, 180, 0, 54, 29, 47, 80, 177]
abbrev dktX11_dropAttribute_2 : List UInt8 := dkwX11_dropAttribute_2 ++ []
def dkwX11_dropAttribute_1 : List UInt8 := [180, 0, 48, 28, 42, 180, 0, 48, 29, 46, 79, 42, 180, 0, 51, 28, 42, 180, 0, 51, 29, 47, 80, 42]
abbrev dktX11_dropAttribute_1 : List UInt8 := dkwX11_dropAttribute_1 ++ dktX11_dropAttribute_2
def dkwX11_dropAttribute_0 : List UInt8 := [42, 180, 0, 45, 27, 92, 46, 4, 100, 79, 17, 2, 188, 27, 104, 42, 180, 0, 45, 27, 46, 96, 62, 42]
abbrev dktX11_dropAttribute_0 : List UInt8 := dkwX11_dropAttribute_0 ++ dktX11_dropAttribute_1
theorem dksX11_dropAttribute_0 : cX11_dropAttribute.data.toList.drop 0 = dktX11_dropAttribute_0 := by decide +kernel
theorem dksX11_dropAttribute_1 : cX11_dropAttribute.data.toList.drop 24 = dktX11_dropAttribute_1 := dk_seg dksX11_dropAttribute_0 24 rfl rfl
theorem dksX11_dropAttribute_2 : cX11_dropAttribute.data.toList.drop 48 = dktX11_dropAttribute_2 := dk_seg dksX11_dropAttribute_1 24 rfl rfl
theorem dX11_dropAttribute_0 : decode cX11_dropAttribute 0 = .ok (.aload_n 0, 1) := dk_42 (dk_at dksX11_dropAttribute_0 0 rfl rfl)
theorem dX11_dropAttribute_1 : decode cX11_dropAttribute 1 = .ok (.getfield 45, 3) := dk_180 0 45 (dk_at dksX11_dropAttribute_0 1 rfl rfl)
theorem dX11_dropAttribute_4 : decode cX11_dropAttribute 4 = .ok (.iload_n 1, 1) := dk_27 (dk_at dksX11_dropAttribute_0 4 rfl rfl)
theorem dX11_dropAttribute_5 : decode cX11_dropAttribute 5 = .ok (.dup2, 1) := dk_92 (dk_at dksX11_dropAttribute_0 5 rfl rfl)
theorem dX11_dropAttribute_6 : decode cX11_dropAttribute 6 = .ok (.iaload, 1) := dk_46 (dk_at dksX11_dropAttribute_0 6 rfl rfl)
theorem dX11_dropAttribute_7 : decode cX11_dropAttribute 7 = .ok (.iconst 1, 1) := dk_4 (dk_at dksX11_dropAttribute_0 7 rfl rfl)
theorem dX11_dropAttribute_8 : decode cX11_dropAttribute 8 = .ok (.isub, 1) := dk_100 (dk_at dksX11_dropAttribute_0 8 rfl rfl)
theorem dX11_dropAttribute_9 : decode cX11_dropAttribute 9 = .ok (.iastore, 1) := dk_79 (dk_at dksX11_dropAttribute_0 9 rfl rfl)
theorem dX11_dropAttribute_10 : decode cX11_dropAttribute 10 = .ok (.sipush 700, 3) := dk_17 2 188 (dk_at dksX11_dropAttribute_0 10 rfl rfl)
theorem dX11_dropAttribute_13 : decode cX11_dropAttribute 13 = .ok (.iload_n 1, 1) := dk_27 (dk_at dksX11_dropAttribute_0 13 rfl rfl)
theorem dX11_dropAttribute_14 : decode cX11_dropAttribute 14 = .ok (.imul, 1) := dk_104 (dk_at dksX11_dropAttribute_0 14 rfl rfl)
theorem dX11_dropAttribute_15 : decode cX11_dropAttribute 15 = .ok (.aload_n 0, 1) := dk_42 (dk_at dksX11_dropAttribute_0 15 rfl rfl)
theorem dX11_dropAttribute_16 : decode cX11_dropAttribute 16 = .ok (.getfield 45, 3) := dk_180 0 45 (dk_at dksX11_dropAttribute_0 16 rfl rfl)
theorem dX11_dropAttribute_19 : decode cX11_dropAttribute 19 = .ok (.iload_n 1, 1) := dk_27 (dk_at dksX11_dropAttribute_0 19 rfl rfl)
theorem dX11_dropAttribute_20 : decode cX11_dropAttribute 20 = .ok (.iaload, 1) := dk_46 (dk_at dksX11_dropAttribute_0 20 rfl rfl)
theorem dX11_dropAttribute_21 : decode cX11_dropAttribute 21 = .ok (.iadd, 1) := dk_96 (dk_at dksX11_dropAttribute_0 21 rfl rfl)
theorem dX11_dropAttribute_22 : decode cX11_dropAttribute 22 = .ok (.istore_n 3, 1) := dk_62 (dk_at dksX11_dropAttribute_0 22 rfl rfl)
theorem dX11_dropAttribute_23 : decode cX11_dropAttribute 23 = .ok (.aload_n 0, 1) := dk_42 (dk_at dksX11_dropAttribute_0 23 rfl rfl)
theorem dX11_dropAttribute_24 : decode cX11_dropAttribute 24 = .ok (.getfield 48, 3) := dk_180 0 48 (dk_at dksX11_dropAttribute_1 0 rfl rfl)
theorem dX11_dropAttribute_27 : decode cX11_dropAttribute 27 = .ok (.iload_n 2, 1) := dk_28 (dk_at dksX11_dropAttribute_1 3 rfl rfl)
theorem dX11_dropAttribute_28 : decode cX11_dropAttribute 28 = .ok (.aload_n 0, 1) := dk_42 (dk_at dksX11_dropAttribute_1 4 rfl rfl)
theorem dX11_dropAttribute_29 : decode cX11_dropAttribute 29 = .ok (.getfield 48, 3) := dk_180 0 48 (dk_at dksX11_dropAttribute_1 5 rfl rfl)
theorem dX11_dropAttribute_32 : decode cX11_dropAttribute 32 = .ok (.iload_n 3, 1) := dk_29 (dk_at dksX11_dropAttribute_1 8 rfl rfl)
theorem dX11_dropAttribute_33 : decode cX11_dropAttribute 33 = .ok (.iaload, 1) := dk_46 (dk_at dksX11_dropAttribute_1 9 rfl rfl)
theorem dX11_dropAttribute_34 : decode cX11_dropAttribute 34 = .ok (.iastore, 1) := dk_79 (dk_at dksX11_dropAttribute_1 10 rfl rfl)
theorem dX11_dropAttribute_35 : decode cX11_dropAttribute 35 = .ok (.aload_n 0, 1) := dk_42 (dk_at dksX11_dropAttribute_1 11 rfl rfl)
theorem dX11_dropAttribute_36 : decode cX11_dropAttribute 36 = .ok (.getfield 51, 3) := dk_180 0 51 (dk_at dksX11_dropAttribute_1 12 rfl rfl)
theorem dX11_dropAttribute_39 : decode cX11_dropAttribute 39 = .ok (.iload_n 2, 1) := dk_28 (dk_at dksX11_dropAttribute_1 15 rfl rfl)
theorem dX11_dropAttribute_40 : decode cX11_dropAttribute 40 = .ok (.aload_n 0, 1) := dk_42 (dk_at dksX11_dropAttribute_1 16 rfl rfl)
theorem dX11_dropAttribute_41 : decode cX11_dropAttribute 41 = .ok (.getfield 51, 3) := dk_180 0 51 (dk_at dksX11_dropAttribute_1 17 rfl rfl)
theorem dX11_dropAttribute_44 : decode cX11_dropAttribute 44 = .ok (.iload_n 3, 1) := dk_29 (dk_at dksX11_dropAttribute_1 20 rfl rfl)
theorem dX11_dropAttribute_45 : decode cX11_dropAttribute 45 = .ok (.laload, 1) := dk_47 (dk_at dksX11_dropAttribute_1 21 rfl rfl)
theorem dX11_dropAttribute_46 : decode cX11_dropAttribute 46 = .ok (.lastore, 1) := dk_80 (dk_at dksX11_dropAttribute_1 22 rfl rfl)
theorem dX11_dropAttribute_47 : decode cX11_dropAttribute 47 = .ok (.aload_n 0, 1) := dk_42 (dk_at dksX11_dropAttribute_1 23 rfl rfl)
theorem dX11_dropAttribute_48 : decode cX11_dropAttribute 48 = .ok (.getfield 54, 3) := dk_180 0 54 (dk_at dksX11_dropAttribute_2 0 rfl rfl)
theorem dX11_dropAttribute_51 : decode cX11_dropAttribute 51 = .ok (.iload_n 2, 1) := dk_28 (dk_at dksX11_dropAttribute_2 3 rfl rfl)
theorem dX11_dropAttribute_52 : decode cX11_dropAttribute 52 = .ok (.aload_n 0, 1) := dk_42 (dk_at dksX11_dropAttribute_2 4 rfl rfl)
theorem dX11_dropAttribute_53 : decode cX11_dropAttribute 53 = .ok (.getfield 54, 3) := dk_180 0 54 (dk_at dksX11_dropAttribute_2 5 rfl rfl)
theorem dX11_dropAttribute_56 : decode cX11_dropAttribute 56 = .ok (.iload_n 3, 1) := dk_29 (dk_at dksX11_dropAttribute_2 8 rfl rfl)
theorem dX11_dropAttribute_57 : decode cX11_dropAttribute 57 = .ok (.laload, 1) := dk_47 (dk_at dksX11_dropAttribute_2 9 rfl rfl)
theorem dX11_dropAttribute_58 : decode cX11_dropAttribute 58 = .ok (.lastore, 1) := dk_80 (dk_at dksX11_dropAttribute_2 10 rfl rfl)
theorem dX11_dropAttribute_59 : decode cX11_dropAttribute 59 = .ok (.return_, 1) := dk_177 (dk_at dksX11_dropAttribute_2 11 rfl rfl)
abbrev cX11_moveEntry : ByteArray := prog_12_method_19_code
def yX11_moveEntry : MethodName := ⟨RX11, "moveEntry", "(II)V"⟩
def dkwX11_moveEntry_4 : List UInt8 := [47, 80, 177]
abbrev dktX11_moveEntry_4 : List UInt8 := dkwX11_moveEntry_4 ++ []
def dkwX11_moveEntry_3 : List UInt8 := [42, 180, 0, 35, 21, 4, 42, 180, 0, 83, 28, 46, 79, 42, 180, 0, 38, 21, 4, 42, 180, 0, 99, 28]
abbrev dktX11_moveEntry_3 : List UInt8 := dkwX11_moveEntry_3 ++ dktX11_moveEntry_4
def dkwX11_moveEntry_2 : List UInt8 := [21, 4, 182, 0, 169, 42, 27, 42, 180, 0, 80, 28, 46, 42, 180, 0, 96, 28, 47, 182, 0, 162, 54, 4]
abbrev dktX11_moveEntry_2 : List UInt8 := dkwX11_moveEntry_2 ++ dktX11_moveEntry_3
def dkwX11_moveEntry_1 : List UInt8 := [180, 0, 42, 29, 46, 54, 4, 42, 27, 29, 182, 0, 166, 42, 180, 0, 92, 28, 51, 153, 0, 10, 42, 27]
abbrev dktX11_moveEntry_1 : List UInt8 := dkwX11_moveEntry_1 ++ dktX11_moveEntry_2
def dkwX11_moveEntry_0 : List UInt8 := [42, 27, 42, 180, 0, 83, 28, 46, 42, 180, 0, 99, 28, 47, 182, 0, 162, 62, 29, 2, 159, 0, 33, 42]
abbrev dktX11_moveEntry_0 : List UInt8 := dkwX11_moveEntry_0 ++ dktX11_moveEntry_1
theorem dksX11_moveEntry_0 : cX11_moveEntry.data.toList.drop 0 = dktX11_moveEntry_0 := by decide +kernel
theorem dksX11_moveEntry_1 : cX11_moveEntry.data.toList.drop 24 = dktX11_moveEntry_1 := dk_seg dksX11_moveEntry_0 24 rfl rfl
theorem dksX11_moveEntry_2 : cX11_moveEntry.data.toList.drop 48 = dktX11_moveEntry_2 := dk_seg dksX11_moveEntry_1 24 rfl rfl
theorem dksX11_moveEntry_3 : cX11_moveEntry.data.toList.drop 72 = dktX11_moveEntry_3 := dk_seg dksX11_moveEntry_2 24 rfl rfl
theorem dksX11_moveEntry_4 : cX11_moveEntry.data.toList.drop 96 = dktX11_moveEntry_4 := dk_seg dksX11_moveEntry_3 24 rfl rfl
theorem dX11_moveEntry_0 : decode cX11_moveEntry 0 = .ok (.aload_n 0, 1) := dk_42 (dk_at dksX11_moveEntry_0 0 rfl rfl)
theorem dX11_moveEntry_1 : decode cX11_moveEntry 1 = .ok (.iload_n 1, 1) := dk_27 (dk_at dksX11_moveEntry_0 1 rfl rfl)
theorem dX11_moveEntry_2 : decode cX11_moveEntry 2 = .ok (.aload_n 0, 1) := dk_42 (dk_at dksX11_moveEntry_0 2 rfl rfl)
theorem dX11_moveEntry_3 : decode cX11_moveEntry 3 = .ok (.getfield 83, 3) := dk_180 0 83 (dk_at dksX11_moveEntry_0 3 rfl rfl)
theorem dX11_moveEntry_6 : decode cX11_moveEntry 6 = .ok (.iload_n 2, 1) := dk_28 (dk_at dksX11_moveEntry_0 6 rfl rfl)
theorem dX11_moveEntry_7 : decode cX11_moveEntry 7 = .ok (.iaload, 1) := dk_46 (dk_at dksX11_moveEntry_0 7 rfl rfl)
theorem dX11_moveEntry_8 : decode cX11_moveEntry 8 = .ok (.aload_n 0, 1) := dk_42 (dk_at dksX11_moveEntry_0 8 rfl rfl)
theorem dX11_moveEntry_9 : decode cX11_moveEntry 9 = .ok (.getfield 99, 3) := dk_180 0 99 (dk_at dksX11_moveEntry_0 9 rfl rfl)
theorem dX11_moveEntry_12 : decode cX11_moveEntry 12 = .ok (.iload_n 2, 1) := dk_28 (dk_at dksX11_moveEntry_0 12 rfl rfl)
theorem dX11_moveEntry_13 : decode cX11_moveEntry 13 = .ok (.laload, 1) := dk_47 (dk_at dksX11_moveEntry_0 13 rfl rfl)
theorem dX11_moveEntry_14 : decode cX11_moveEntry 14 = .ok (.invokevirtual 162, 3) := dk_182 0 162 (dk_at dksX11_moveEntry_0 14 rfl rfl)
theorem dX11_moveEntry_17 : decode cX11_moveEntry 17 = .ok (.istore_n 3, 1) := dk_62 (dk_at dksX11_moveEntry_0 17 rfl rfl)
theorem dX11_moveEntry_18 : decode cX11_moveEntry 18 = .ok (.iload_n 3, 1) := dk_29 (dk_at dksX11_moveEntry_0 18 rfl rfl)
theorem dX11_moveEntry_19 : decode cX11_moveEntry 19 = .ok (.iconst (-1), 1) := dk_2 (dk_at dksX11_moveEntry_0 19 rfl rfl)
theorem dX11_moveEntry_20 : decode cX11_moveEntry 20 = .ok (.if_icmp .eq 33, 3) := dk_159 0 33 (dk_at dksX11_moveEntry_0 20 rfl rfl)
theorem dX11_moveEntry_23 : decode cX11_moveEntry 23 = .ok (.aload_n 0, 1) := dk_42 (dk_at dksX11_moveEntry_0 23 rfl rfl)
theorem dX11_moveEntry_24 : decode cX11_moveEntry 24 = .ok (.getfield 42, 3) := dk_180 0 42 (dk_at dksX11_moveEntry_1 0 rfl rfl)
theorem dX11_moveEntry_27 : decode cX11_moveEntry 27 = .ok (.iload_n 3, 1) := dk_29 (dk_at dksX11_moveEntry_1 3 rfl rfl)
theorem dX11_moveEntry_28 : decode cX11_moveEntry 28 = .ok (.iaload, 1) := dk_46 (dk_at dksX11_moveEntry_1 4 rfl rfl)
theorem dX11_moveEntry_29 : decode cX11_moveEntry 29 = .ok (.istore 4, 2) := dk_54 4 (dk_at dksX11_moveEntry_1 5 rfl rfl)
theorem dX11_moveEntry_31 : decode cX11_moveEntry 31 = .ok (.aload_n 0, 1) := dk_42 (dk_at dksX11_moveEntry_1 7 rfl rfl)
theorem dX11_moveEntry_32 : decode cX11_moveEntry 32 = .ok (.iload_n 1, 1) := dk_27 (dk_at dksX11_moveEntry_1 8 rfl rfl)
theorem dX11_moveEntry_33 : decode cX11_moveEntry 33 = .ok (.iload_n 3, 1) := dk_29 (dk_at dksX11_moveEntry_1 9 rfl rfl)
theorem dX11_moveEntry_34 : decode cX11_moveEntry 34 = .ok (.invokevirtual 166, 3) := dk_182 0 166 (dk_at dksX11_moveEntry_1 10 rfl rfl)
theorem dX11_moveEntry_37 : decode cX11_moveEntry 37 = .ok (.aload_n 0, 1) := dk_42 (dk_at dksX11_moveEntry_1 13 rfl rfl)
theorem dX11_moveEntry_38 : decode cX11_moveEntry 38 = .ok (.getfield 92, 3) := dk_180 0 92 (dk_at dksX11_moveEntry_1 14 rfl rfl)
theorem dX11_moveEntry_41 : decode cX11_moveEntry 41 = .ok (.iload_n 2, 1) := dk_28 (dk_at dksX11_moveEntry_1 17 rfl rfl)
theorem dX11_moveEntry_42 : decode cX11_moveEntry 42 = .ok (.baload, 1) := dk_51 (dk_at dksX11_moveEntry_1 18 rfl rfl)
theorem dX11_moveEntry_43 : decode cX11_moveEntry 43 = .ok (.ifCond .eq 10, 3) := dk_153 0 10 (dk_at dksX11_moveEntry_1 19 rfl rfl)
theorem dX11_moveEntry_46 : decode cX11_moveEntry 46 = .ok (.aload_n 0, 1) := dk_42 (dk_at dksX11_moveEntry_1 22 rfl rfl)
theorem dX11_moveEntry_47 : decode cX11_moveEntry 47 = .ok (.iload_n 1, 1) := dk_27 (dk_at dksX11_moveEntry_1 23 rfl rfl)
theorem dX11_moveEntry_48 : decode cX11_moveEntry 48 = .ok (.iload 4, 2) := dk_21 4 (dk_at dksX11_moveEntry_2 0 rfl rfl)
theorem dX11_moveEntry_50 : decode cX11_moveEntry 50 = .ok (.invokevirtual 169, 3) := dk_182 0 169 (dk_at dksX11_moveEntry_2 2 rfl rfl)
theorem dX11_moveEntry_53 : decode cX11_moveEntry 53 = .ok (.aload_n 0, 1) := dk_42 (dk_at dksX11_moveEntry_2 5 rfl rfl)
theorem dX11_moveEntry_54 : decode cX11_moveEntry 54 = .ok (.iload_n 1, 1) := dk_27 (dk_at dksX11_moveEntry_2 6 rfl rfl)
theorem dX11_moveEntry_55 : decode cX11_moveEntry 55 = .ok (.aload_n 0, 1) := dk_42 (dk_at dksX11_moveEntry_2 7 rfl rfl)
theorem dX11_moveEntry_56 : decode cX11_moveEntry 56 = .ok (.getfield 80, 3) := dk_180 0 80 (dk_at dksX11_moveEntry_2 8 rfl rfl)
theorem dX11_moveEntry_59 : decode cX11_moveEntry 59 = .ok (.iload_n 2, 1) := dk_28 (dk_at dksX11_moveEntry_2 11 rfl rfl)
theorem dX11_moveEntry_60 : decode cX11_moveEntry 60 = .ok (.iaload, 1) := dk_46 (dk_at dksX11_moveEntry_2 12 rfl rfl)
theorem dX11_moveEntry_61 : decode cX11_moveEntry 61 = .ok (.aload_n 0, 1) := dk_42 (dk_at dksX11_moveEntry_2 13 rfl rfl)
theorem dX11_moveEntry_62 : decode cX11_moveEntry 62 = .ok (.getfield 96, 3) := dk_180 0 96 (dk_at dksX11_moveEntry_2 14 rfl rfl)
theorem dX11_moveEntry_65 : decode cX11_moveEntry 65 = .ok (.iload_n 2, 1) := dk_28 (dk_at dksX11_moveEntry_2 17 rfl rfl)
theorem dX11_moveEntry_66 : decode cX11_moveEntry 66 = .ok (.laload, 1) := dk_47 (dk_at dksX11_moveEntry_2 18 rfl rfl)
theorem dX11_moveEntry_67 : decode cX11_moveEntry 67 = .ok (.invokevirtual 162, 3) := dk_182 0 162 (dk_at dksX11_moveEntry_2 19 rfl rfl)
theorem dX11_moveEntry_70 : decode cX11_moveEntry 70 = .ok (.istore 4, 2) := dk_54 4 (dk_at dksX11_moveEntry_2 22 rfl rfl)
theorem dX11_moveEntry_72 : decode cX11_moveEntry 72 = .ok (.aload_n 0, 1) := dk_42 (dk_at dksX11_moveEntry_3 0 rfl rfl)
theorem dX11_moveEntry_73 : decode cX11_moveEntry 73 = .ok (.getfield 35, 3) := dk_180 0 35 (dk_at dksX11_moveEntry_3 1 rfl rfl)
theorem dX11_moveEntry_76 : decode cX11_moveEntry 76 = .ok (.iload 4, 2) := dk_21 4 (dk_at dksX11_moveEntry_3 4 rfl rfl)
theorem dX11_moveEntry_78 : decode cX11_moveEntry 78 = .ok (.aload_n 0, 1) := dk_42 (dk_at dksX11_moveEntry_3 6 rfl rfl)
theorem dX11_moveEntry_79 : decode cX11_moveEntry 79 = .ok (.getfield 83, 3) := dk_180 0 83 (dk_at dksX11_moveEntry_3 7 rfl rfl)
theorem dX11_moveEntry_82 : decode cX11_moveEntry 82 = .ok (.iload_n 2, 1) := dk_28 (dk_at dksX11_moveEntry_3 10 rfl rfl)
theorem dX11_moveEntry_83 : decode cX11_moveEntry 83 = .ok (.iaload, 1) := dk_46 (dk_at dksX11_moveEntry_3 11 rfl rfl)
theorem dX11_moveEntry_84 : decode cX11_moveEntry 84 = .ok (.iastore, 1) := dk_79 (dk_at dksX11_moveEntry_3 12 rfl rfl)
theorem dX11_moveEntry_85 : decode cX11_moveEntry 85 = .ok (.aload_n 0, 1) := dk_42 (dk_at dksX11_moveEntry_3 13 rfl rfl)
theorem dX11_moveEntry_86 : decode cX11_moveEntry 86 = .ok (.getfield 38, 3) := dk_180 0 38 (dk_at dksX11_moveEntry_3 14 rfl rfl)
theorem dX11_moveEntry_89 : decode cX11_moveEntry 89 = .ok (.iload 4, 2) := dk_21 4 (dk_at dksX11_moveEntry_3 17 rfl rfl)
theorem dX11_moveEntry_91 : decode cX11_moveEntry 91 = .ok (.aload_n 0, 1) := dk_42 (dk_at dksX11_moveEntry_3 19 rfl rfl)
theorem dX11_moveEntry_92 : decode cX11_moveEntry 92 = .ok (.getfield 99, 3) := dk_180 0 99 (dk_at dksX11_moveEntry_3 20 rfl rfl)
theorem dX11_moveEntry_95 : decode cX11_moveEntry 95 = .ok (.iload_n 2, 1) := dk_28 (dk_at dksX11_moveEntry_3 23 rfl rfl)
theorem dX11_moveEntry_96 : decode cX11_moveEntry 96 = .ok (.laload, 1) := dk_47 (dk_at dksX11_moveEntry_4 0 rfl rfl)
theorem dX11_moveEntry_97 : decode cX11_moveEntry 97 = .ok (.lastore, 1) := dk_80 (dk_at dksX11_moveEntry_4 1 rfl rfl)
theorem dX11_moveEntry_98 : decode cX11_moveEntry 98 = .ok (.return_, 1) := dk_177 (dk_at dksX11_moveEntry_4 2 rfl rfl)
abbrev cX11_cutTo : ByteArray := prog_12_method_18_code
def yX11_cutTo : MethodName := ⟨RX11, "cutTo", "(III)V"⟩
def dkwX11_cutTo_5 : List UInt8 := [167, 255, 232, 42, 180, 0, 29, 21, 4, 29, 79, 177]
abbrev dktX11_cutTo_5 : List UInt8 := dkwX11_cutTo_5 ++ []
def dkwX11_cutTo_4 : List UInt8 := [21, 6, 16, 64, 162, 0, 23, 42, 180, 0, 70, 16, 64, 21, 5, 104, 21, 6, 96, 3, 84, 132, 6, 1]
abbrev dktX11_cutTo_4 : List UInt8 := dkwX11_cutTo_4 ++ dktX11_cutTo_5
def dkwX11_cutTo_3 : List UInt8 := [164, 0, 50, 42, 180, 0, 66, 21, 5, 29, 16, 64, 112, 79, 42, 180, 0, 66, 21, 5, 46, 54, 6]
abbrev dktX11_cutTo_3 : List UInt8 := dkwX11_cutTo_3 ++ dktX11_cutTo_4
def dkwX11_cutTo_2 : List UInt8 := [21, 5, 2, 159, 0, 71, 29, 16, 64, 112, 158, 0, 64, 42, 180, 0, 66, 21, 5, 46, 29, 16, 64, 112]
abbrev dktX11_cutTo_2 : List UInt8 := dkwX11_cutTo_2 ++ dktX11_cutTo_3
def dkwX11_cutTo_1 : List UInt8 := [16, 64, 96, 4, 100, 16, 64, 108, 182, 0, 147, 42, 27, 28, 29, 16, 64, 108, 182, 0, 158, 54, 5]
abbrev dktX11_cutTo_1 : List UInt8 := dkwX11_cutTo_1 ++ dktX11_cutTo_2
def dkwX11_cutTo_0 : List UInt8 := [42, 27, 28, 182, 0, 143, 54, 4, 29, 42, 180, 0, 29, 21, 4, 46, 162, 0, 104, 42, 27, 28, 29]
abbrev dktX11_cutTo_0 : List UInt8 := dkwX11_cutTo_0 ++ dktX11_cutTo_1
theorem dksX11_cutTo_0 : cX11_cutTo.data.toList.drop 0 = dktX11_cutTo_0 := by decide +kernel
theorem dksX11_cutTo_1 : cX11_cutTo.data.toList.drop 23 = dktX11_cutTo_1 := dk_seg dksX11_cutTo_0 23 rfl rfl
theorem dksX11_cutTo_2 : cX11_cutTo.data.toList.drop 46 = dktX11_cutTo_2 := dk_seg dksX11_cutTo_1 23 rfl rfl
theorem dksX11_cutTo_3 : cX11_cutTo.data.toList.drop 70 = dktX11_cutTo_3 := dk_seg dksX11_cutTo_2 24 rfl rfl
theorem dksX11_cutTo_4 : cX11_cutTo.data.toList.drop 93 = dktX11_cutTo_4 := dk_seg dksX11_cutTo_3 23 rfl rfl
theorem dksX11_cutTo_5 : cX11_cutTo.data.toList.drop 117 = dktX11_cutTo_5 := dk_seg dksX11_cutTo_4 24 rfl rfl
theorem dX11_cutTo_0 : decode cX11_cutTo 0 = .ok (.aload_n 0, 1) := dk_42 (dk_at dksX11_cutTo_0 0 rfl rfl)
theorem dX11_cutTo_1 : decode cX11_cutTo 1 = .ok (.iload_n 1, 1) := dk_27 (dk_at dksX11_cutTo_0 1 rfl rfl)
theorem dX11_cutTo_2 : decode cX11_cutTo 2 = .ok (.iload_n 2, 1) := dk_28 (dk_at dksX11_cutTo_0 2 rfl rfl)
theorem dX11_cutTo_3 : decode cX11_cutTo 3 = .ok (.invokevirtual 143, 3) := dk_182 0 143 (dk_at dksX11_cutTo_0 3 rfl rfl)
theorem dX11_cutTo_6 : decode cX11_cutTo 6 = .ok (.istore 4, 2) := dk_54 4 (dk_at dksX11_cutTo_0 6 rfl rfl)
theorem dX11_cutTo_8 : decode cX11_cutTo 8 = .ok (.iload_n 3, 1) := dk_29 (dk_at dksX11_cutTo_0 8 rfl rfl)
theorem dX11_cutTo_9 : decode cX11_cutTo 9 = .ok (.aload_n 0, 1) := dk_42 (dk_at dksX11_cutTo_0 9 rfl rfl)
theorem dX11_cutTo_10 : decode cX11_cutTo 10 = .ok (.getfield 29, 3) := dk_180 0 29 (dk_at dksX11_cutTo_0 10 rfl rfl)
theorem dX11_cutTo_13 : decode cX11_cutTo 13 = .ok (.iload 4, 2) := dk_21 4 (dk_at dksX11_cutTo_0 13 rfl rfl)
theorem dX11_cutTo_15 : decode cX11_cutTo 15 = .ok (.iaload, 1) := dk_46 (dk_at dksX11_cutTo_0 15 rfl rfl)
theorem dX11_cutTo_16 : decode cX11_cutTo 16 = .ok (.if_icmp .ge 104, 3) := dk_162 0 104 (dk_at dksX11_cutTo_0 16 rfl rfl)
theorem dX11_cutTo_19 : decode cX11_cutTo 19 = .ok (.aload_n 0, 1) := dk_42 (dk_at dksX11_cutTo_0 19 rfl rfl)
theorem dX11_cutTo_20 : decode cX11_cutTo 20 = .ok (.iload_n 1, 1) := dk_27 (dk_at dksX11_cutTo_0 20 rfl rfl)
theorem dX11_cutTo_21 : decode cX11_cutTo 21 = .ok (.iload_n 2, 1) := dk_28 (dk_at dksX11_cutTo_0 21 rfl rfl)
theorem dX11_cutTo_22 : decode cX11_cutTo 22 = .ok (.iload_n 3, 1) := dk_29 (dk_at dksX11_cutTo_0 22 rfl rfl)
theorem dX11_cutTo_23 : decode cX11_cutTo 23 = .ok (.bipush 64, 2) := dk_16 64 (dk_at dksX11_cutTo_1 0 rfl rfl)
theorem dX11_cutTo_25 : decode cX11_cutTo 25 = .ok (.iadd, 1) := dk_96 (dk_at dksX11_cutTo_1 2 rfl rfl)
theorem dX11_cutTo_26 : decode cX11_cutTo 26 = .ok (.iconst 1, 1) := dk_4 (dk_at dksX11_cutTo_1 3 rfl rfl)
theorem dX11_cutTo_27 : decode cX11_cutTo 27 = .ok (.isub, 1) := dk_100 (dk_at dksX11_cutTo_1 4 rfl rfl)
theorem dX11_cutTo_28 : decode cX11_cutTo 28 = .ok (.bipush 64, 2) := dk_16 64 (dk_at dksX11_cutTo_1 5 rfl rfl)
theorem dX11_cutTo_30 : decode cX11_cutTo 30 = .ok (.idiv, 1) := dk_108 (dk_at dksX11_cutTo_1 7 rfl rfl)
theorem dX11_cutTo_31 : decode cX11_cutTo 31 = .ok (.invokevirtual 147, 3) := dk_182 0 147 (dk_at dksX11_cutTo_1 8 rfl rfl)
theorem dX11_cutTo_34 : decode cX11_cutTo 34 = .ok (.aload_n 0, 1) := dk_42 (dk_at dksX11_cutTo_1 11 rfl rfl)
theorem dX11_cutTo_35 : decode cX11_cutTo 35 = .ok (.iload_n 1, 1) := dk_27 (dk_at dksX11_cutTo_1 12 rfl rfl)
theorem dX11_cutTo_36 : decode cX11_cutTo 36 = .ok (.iload_n 2, 1) := dk_28 (dk_at dksX11_cutTo_1 13 rfl rfl)
theorem dX11_cutTo_37 : decode cX11_cutTo 37 = .ok (.iload_n 3, 1) := dk_29 (dk_at dksX11_cutTo_1 14 rfl rfl)
theorem dX11_cutTo_38 : decode cX11_cutTo 38 = .ok (.bipush 64, 2) := dk_16 64 (dk_at dksX11_cutTo_1 15 rfl rfl)
theorem dX11_cutTo_40 : decode cX11_cutTo 40 = .ok (.idiv, 1) := dk_108 (dk_at dksX11_cutTo_1 17 rfl rfl)
theorem dX11_cutTo_41 : decode cX11_cutTo 41 = .ok (.invokevirtual 158, 3) := dk_182 0 158 (dk_at dksX11_cutTo_1 18 rfl rfl)
theorem dX11_cutTo_44 : decode cX11_cutTo 44 = .ok (.istore 5, 2) := dk_54 5 (dk_at dksX11_cutTo_1 21 rfl rfl)
theorem dX11_cutTo_46 : decode cX11_cutTo 46 = .ok (.iload 5, 2) := dk_21 5 (dk_at dksX11_cutTo_2 0 rfl rfl)
theorem dX11_cutTo_48 : decode cX11_cutTo 48 = .ok (.iconst (-1), 1) := dk_2 (dk_at dksX11_cutTo_2 2 rfl rfl)
theorem dX11_cutTo_49 : decode cX11_cutTo 49 = .ok (.if_icmp .eq 71, 3) := dk_159 0 71 (dk_at dksX11_cutTo_2 3 rfl rfl)
theorem dX11_cutTo_52 : decode cX11_cutTo 52 = .ok (.iload_n 3, 1) := dk_29 (dk_at dksX11_cutTo_2 6 rfl rfl)
theorem dX11_cutTo_53 : decode cX11_cutTo 53 = .ok (.bipush 64, 2) := dk_16 64 (dk_at dksX11_cutTo_2 7 rfl rfl)
theorem dX11_cutTo_55 : decode cX11_cutTo 55 = .ok (.irem, 1) := dk_112 (dk_at dksX11_cutTo_2 9 rfl rfl)
theorem dX11_cutTo_56 : decode cX11_cutTo 56 = .ok (.ifCond .le 64, 3) := dk_158 0 64 (dk_at dksX11_cutTo_2 10 rfl rfl)
theorem dX11_cutTo_59 : decode cX11_cutTo 59 = .ok (.aload_n 0, 1) := dk_42 (dk_at dksX11_cutTo_2 13 rfl rfl)
theorem dX11_cutTo_60 : decode cX11_cutTo 60 = .ok (.getfield 66, 3) := dk_180 0 66 (dk_at dksX11_cutTo_2 14 rfl rfl)
theorem dX11_cutTo_63 : decode cX11_cutTo 63 = .ok (.iload 5, 2) := dk_21 5 (dk_at dksX11_cutTo_2 17 rfl rfl)
theorem dX11_cutTo_65 : decode cX11_cutTo 65 = .ok (.iaload, 1) := dk_46 (dk_at dksX11_cutTo_2 19 rfl rfl)
theorem dX11_cutTo_66 : decode cX11_cutTo 66 = .ok (.iload_n 3, 1) := dk_29 (dk_at dksX11_cutTo_2 20 rfl rfl)
theorem dX11_cutTo_67 : decode cX11_cutTo 67 = .ok (.bipush 64, 2) := dk_16 64 (dk_at dksX11_cutTo_2 21 rfl rfl)
theorem dX11_cutTo_69 : decode cX11_cutTo 69 = .ok (.irem, 1) := dk_112 (dk_at dksX11_cutTo_2 23 rfl rfl)
theorem dX11_cutTo_70 : decode cX11_cutTo 70 = .ok (.if_icmp .le 50, 3) := dk_164 0 50 (dk_at dksX11_cutTo_3 0 rfl rfl)
theorem dX11_cutTo_73 : decode cX11_cutTo 73 = .ok (.aload_n 0, 1) := dk_42 (dk_at dksX11_cutTo_3 3 rfl rfl)
theorem dX11_cutTo_74 : decode cX11_cutTo 74 = .ok (.getfield 66, 3) := dk_180 0 66 (dk_at dksX11_cutTo_3 4 rfl rfl)
theorem dX11_cutTo_77 : decode cX11_cutTo 77 = .ok (.iload 5, 2) := dk_21 5 (dk_at dksX11_cutTo_3 7 rfl rfl)
theorem dX11_cutTo_79 : decode cX11_cutTo 79 = .ok (.iload_n 3, 1) := dk_29 (dk_at dksX11_cutTo_3 9 rfl rfl)
theorem dX11_cutTo_80 : decode cX11_cutTo 80 = .ok (.bipush 64, 2) := dk_16 64 (dk_at dksX11_cutTo_3 10 rfl rfl)
theorem dX11_cutTo_82 : decode cX11_cutTo 82 = .ok (.irem, 1) := dk_112 (dk_at dksX11_cutTo_3 12 rfl rfl)
theorem dX11_cutTo_83 : decode cX11_cutTo 83 = .ok (.iastore, 1) := dk_79 (dk_at dksX11_cutTo_3 13 rfl rfl)
theorem dX11_cutTo_84 : decode cX11_cutTo 84 = .ok (.aload_n 0, 1) := dk_42 (dk_at dksX11_cutTo_3 14 rfl rfl)
theorem dX11_cutTo_85 : decode cX11_cutTo 85 = .ok (.getfield 66, 3) := dk_180 0 66 (dk_at dksX11_cutTo_3 15 rfl rfl)
theorem dX11_cutTo_88 : decode cX11_cutTo 88 = .ok (.iload 5, 2) := dk_21 5 (dk_at dksX11_cutTo_3 18 rfl rfl)
theorem dX11_cutTo_90 : decode cX11_cutTo 90 = .ok (.iaload, 1) := dk_46 (dk_at dksX11_cutTo_3 20 rfl rfl)
theorem dX11_cutTo_91 : decode cX11_cutTo 91 = .ok (.istore 6, 2) := dk_54 6 (dk_at dksX11_cutTo_3 21 rfl rfl)
theorem dX11_cutTo_93 : decode cX11_cutTo 93 = .ok (.iload 6, 2) := dk_21 6 (dk_at dksX11_cutTo_4 0 rfl rfl)
theorem dX11_cutTo_95 : decode cX11_cutTo 95 = .ok (.bipush 64, 2) := dk_16 64 (dk_at dksX11_cutTo_4 2 rfl rfl)
theorem dX11_cutTo_97 : decode cX11_cutTo 97 = .ok (.if_icmp .ge 23, 3) := dk_162 0 23 (dk_at dksX11_cutTo_4 4 rfl rfl)
theorem dX11_cutTo_100 : decode cX11_cutTo 100 = .ok (.aload_n 0, 1) := dk_42 (dk_at dksX11_cutTo_4 7 rfl rfl)
theorem dX11_cutTo_101 : decode cX11_cutTo 101 = .ok (.getfield 70, 3) := dk_180 0 70 (dk_at dksX11_cutTo_4 8 rfl rfl)
theorem dX11_cutTo_104 : decode cX11_cutTo 104 = .ok (.bipush 64, 2) := dk_16 64 (dk_at dksX11_cutTo_4 11 rfl rfl)
theorem dX11_cutTo_106 : decode cX11_cutTo 106 = .ok (.iload 5, 2) := dk_21 5 (dk_at dksX11_cutTo_4 13 rfl rfl)
theorem dX11_cutTo_108 : decode cX11_cutTo 108 = .ok (.imul, 1) := dk_104 (dk_at dksX11_cutTo_4 15 rfl rfl)
theorem dX11_cutTo_109 : decode cX11_cutTo 109 = .ok (.iload 6, 2) := dk_21 6 (dk_at dksX11_cutTo_4 16 rfl rfl)
theorem dX11_cutTo_111 : decode cX11_cutTo 111 = .ok (.iadd, 1) := dk_96 (dk_at dksX11_cutTo_4 18 rfl rfl)
theorem dX11_cutTo_112 : decode cX11_cutTo 112 = .ok (.iconst 0, 1) := dk_3 (dk_at dksX11_cutTo_4 19 rfl rfl)
theorem dX11_cutTo_113 : decode cX11_cutTo 113 = .ok (.bastore, 1) := dk_84 (dk_at dksX11_cutTo_4 20 rfl rfl)
theorem dX11_cutTo_114 : decode cX11_cutTo 114 = .ok (.iinc 6 1, 3) := dk_132 6 1 (dk_at dksX11_cutTo_4 21 rfl rfl)
theorem dX11_cutTo_117 : decode cX11_cutTo 117 = .ok (.goto (-24), 3) := dk_167 255 232 (dk_at dksX11_cutTo_5 0 rfl rfl)
theorem dX11_cutTo_120 : decode cX11_cutTo 120 = .ok (.aload_n 0, 1) := dk_42 (dk_at dksX11_cutTo_5 3 rfl rfl)
theorem dX11_cutTo_121 : decode cX11_cutTo 121 = .ok (.getfield 29, 3) := dk_180 0 29 (dk_at dksX11_cutTo_5 4 rfl rfl)
theorem dX11_cutTo_124 : decode cX11_cutTo 124 = .ok (.iload 4, 2) := dk_21 4 (dk_at dksX11_cutTo_5 7 rfl rfl)
theorem dX11_cutTo_126 : decode cX11_cutTo 126 = .ok (.iload_n 3, 1) := dk_29 (dk_at dksX11_cutTo_5 9 rfl rfl)
theorem dX11_cutTo_127 : decode cX11_cutTo 127 = .ok (.iastore, 1) := dk_79 (dk_at dksX11_cutTo_5 10 rfl rfl)
theorem dX11_cutTo_128 : decode cX11_cutTo 128 = .ok (.return_, 1) := dk_177 (dk_at dksX11_cutTo_5 11 rfl rfl)
abbrev cX11_swapEntries : ByteArray := prog_12_method_20_code
def yX11_swapEntries : MethodName := ⟨RX11, "swapEntries", "(II)V"⟩
def dkwX11_swapEntries_2 : List UInt8 := [180, 0, 42, 29, 42, 180, 0, 42, 21, 4, 46, 79, 42, 180, 0, 42, 21, 4, 21, 5, 79, 177]
abbrev dktX11_swapEntries_2 : List UInt8 := dkwX11_swapEntries_2 ++ []
def dkwX11_swapEntries_1 : List UInt8 := [28, 46, 42, 180, 0, 99, 28, 47, 182, 0, 162, 54, 4, 42, 180, 0, 42, 29, 46, 54, 5, 42]
abbrev dktX11_swapEntries_1 : List UInt8 := dkwX11_swapEntries_1 ++ dktX11_swapEntries_2
def dkwX11_swapEntries_0 : List UInt8 := [42, 27, 42, 180, 0, 80, 28, 46, 42, 180, 0, 96, 28, 47, 182, 0, 162, 62, 42, 27, 42, 180, 0, 83]
abbrev dktX11_swapEntries_0 : List UInt8 := dkwX11_swapEntries_0 ++ dktX11_swapEntries_1
theorem dksX11_swapEntries_0 : cX11_swapEntries.data.toList.drop 0 = dktX11_swapEntries_0 := by decide +kernel
theorem dksX11_swapEntries_1 : cX11_swapEntries.data.toList.drop 24 = dktX11_swapEntries_1 := dk_seg dksX11_swapEntries_0 24 rfl rfl
theorem dksX11_swapEntries_2 : cX11_swapEntries.data.toList.drop 46 = dktX11_swapEntries_2 := dk_seg dksX11_swapEntries_1 22 rfl rfl
theorem dX11_swapEntries_0 : decode cX11_swapEntries 0 = .ok (.aload_n 0, 1) := dk_42 (dk_at dksX11_swapEntries_0 0 rfl rfl)
theorem dX11_swapEntries_1 : decode cX11_swapEntries 1 = .ok (.iload_n 1, 1) := dk_27 (dk_at dksX11_swapEntries_0 1 rfl rfl)
theorem dX11_swapEntries_2 : decode cX11_swapEntries 2 = .ok (.aload_n 0, 1) := dk_42 (dk_at dksX11_swapEntries_0 2 rfl rfl)
theorem dX11_swapEntries_3 : decode cX11_swapEntries 3 = .ok (.getfield 80, 3) := dk_180 0 80 (dk_at dksX11_swapEntries_0 3 rfl rfl)
theorem dX11_swapEntries_6 : decode cX11_swapEntries 6 = .ok (.iload_n 2, 1) := dk_28 (dk_at dksX11_swapEntries_0 6 rfl rfl)
theorem dX11_swapEntries_7 : decode cX11_swapEntries 7 = .ok (.iaload, 1) := dk_46 (dk_at dksX11_swapEntries_0 7 rfl rfl)
theorem dX11_swapEntries_8 : decode cX11_swapEntries 8 = .ok (.aload_n 0, 1) := dk_42 (dk_at dksX11_swapEntries_0 8 rfl rfl)
theorem dX11_swapEntries_9 : decode cX11_swapEntries 9 = .ok (.getfield 96, 3) := dk_180 0 96 (dk_at dksX11_swapEntries_0 9 rfl rfl)
theorem dX11_swapEntries_12 : decode cX11_swapEntries 12 = .ok (.iload_n 2, 1) := dk_28 (dk_at dksX11_swapEntries_0 12 rfl rfl)
theorem dX11_swapEntries_13 : decode cX11_swapEntries 13 = .ok (.laload, 1) := dk_47 (dk_at dksX11_swapEntries_0 13 rfl rfl)
theorem dX11_swapEntries_14 : decode cX11_swapEntries 14 = .ok (.invokevirtual 162, 3) := dk_182 0 162 (dk_at dksX11_swapEntries_0 14 rfl rfl)
theorem dX11_swapEntries_17 : decode cX11_swapEntries 17 = .ok (.istore_n 3, 1) := dk_62 (dk_at dksX11_swapEntries_0 17 rfl rfl)
theorem dX11_swapEntries_18 : decode cX11_swapEntries 18 = .ok (.aload_n 0, 1) := dk_42 (dk_at dksX11_swapEntries_0 18 rfl rfl)
theorem dX11_swapEntries_19 : decode cX11_swapEntries 19 = .ok (.iload_n 1, 1) := dk_27 (dk_at dksX11_swapEntries_0 19 rfl rfl)
theorem dX11_swapEntries_20 : decode cX11_swapEntries 20 = .ok (.aload_n 0, 1) := dk_42 (dk_at dksX11_swapEntries_0 20 rfl rfl)
theorem dX11_swapEntries_21 : decode cX11_swapEntries 21 = .ok (.getfield 83, 3) := dk_180 0 83 (dk_at dksX11_swapEntries_0 21 rfl rfl)
theorem dX11_swapEntries_24 : decode cX11_swapEntries 24 = .ok (.iload_n 2, 1) := dk_28 (dk_at dksX11_swapEntries_1 0 rfl rfl)
theorem dX11_swapEntries_25 : decode cX11_swapEntries 25 = .ok (.iaload, 1) := dk_46 (dk_at dksX11_swapEntries_1 1 rfl rfl)
theorem dX11_swapEntries_26 : decode cX11_swapEntries 26 = .ok (.aload_n 0, 1) := dk_42 (dk_at dksX11_swapEntries_1 2 rfl rfl)
theorem dX11_swapEntries_27 : decode cX11_swapEntries 27 = .ok (.getfield 99, 3) := dk_180 0 99 (dk_at dksX11_swapEntries_1 3 rfl rfl)
theorem dX11_swapEntries_30 : decode cX11_swapEntries 30 = .ok (.iload_n 2, 1) := dk_28 (dk_at dksX11_swapEntries_1 6 rfl rfl)
theorem dX11_swapEntries_31 : decode cX11_swapEntries 31 = .ok (.laload, 1) := dk_47 (dk_at dksX11_swapEntries_1 7 rfl rfl)
theorem dX11_swapEntries_32 : decode cX11_swapEntries 32 = .ok (.invokevirtual 162, 3) := dk_182 0 162 (dk_at dksX11_swapEntries_1 8 rfl rfl)
theorem dX11_swapEntries_35 : decode cX11_swapEntries 35 = .ok (.istore 4, 2) := dk_54 4 (dk_at dksX11_swapEntries_1 11 rfl rfl)
theorem dX11_swapEntries_37 : decode cX11_swapEntries 37 = .ok (.aload_n 0, 1) := dk_42 (dk_at dksX11_swapEntries_1 13 rfl rfl)
theorem dX11_swapEntries_38 : decode cX11_swapEntries 38 = .ok (.getfield 42, 3) := dk_180 0 42 (dk_at dksX11_swapEntries_1 14 rfl rfl)
theorem dX11_swapEntries_41 : decode cX11_swapEntries 41 = .ok (.iload_n 3, 1) := dk_29 (dk_at dksX11_swapEntries_1 17 rfl rfl)
theorem dX11_swapEntries_42 : decode cX11_swapEntries 42 = .ok (.iaload, 1) := dk_46 (dk_at dksX11_swapEntries_1 18 rfl rfl)
theorem dX11_swapEntries_43 : decode cX11_swapEntries 43 = .ok (.istore 5, 2) := dk_54 5 (dk_at dksX11_swapEntries_1 19 rfl rfl)
theorem dX11_swapEntries_45 : decode cX11_swapEntries 45 = .ok (.aload_n 0, 1) := dk_42 (dk_at dksX11_swapEntries_1 21 rfl rfl)
theorem dX11_swapEntries_46 : decode cX11_swapEntries 46 = .ok (.getfield 42, 3) := dk_180 0 42 (dk_at dksX11_swapEntries_2 0 rfl rfl)
theorem dX11_swapEntries_49 : decode cX11_swapEntries 49 = .ok (.iload_n 3, 1) := dk_29 (dk_at dksX11_swapEntries_2 3 rfl rfl)
theorem dX11_swapEntries_50 : decode cX11_swapEntries 50 = .ok (.aload_n 0, 1) := dk_42 (dk_at dksX11_swapEntries_2 4 rfl rfl)
theorem dX11_swapEntries_51 : decode cX11_swapEntries 51 = .ok (.getfield 42, 3) := dk_180 0 42 (dk_at dksX11_swapEntries_2 5 rfl rfl)
theorem dX11_swapEntries_54 : decode cX11_swapEntries 54 = .ok (.iload 4, 2) := dk_21 4 (dk_at dksX11_swapEntries_2 8 rfl rfl)
theorem dX11_swapEntries_56 : decode cX11_swapEntries 56 = .ok (.iaload, 1) := dk_46 (dk_at dksX11_swapEntries_2 10 rfl rfl)
theorem dX11_swapEntries_57 : decode cX11_swapEntries 57 = .ok (.iastore, 1) := dk_79 (dk_at dksX11_swapEntries_2 11 rfl rfl)
theorem dX11_swapEntries_58 : decode cX11_swapEntries 58 = .ok (.aload_n 0, 1) := dk_42 (dk_at dksX11_swapEntries_2 12 rfl rfl)
theorem dX11_swapEntries_59 : decode cX11_swapEntries 59 = .ok (.getfield 42, 3) := dk_180 0 42 (dk_at dksX11_swapEntries_2 13 rfl rfl)
theorem dX11_swapEntries_62 : decode cX11_swapEntries 62 = .ok (.iload 4, 2) := dk_21 4 (dk_at dksX11_swapEntries_2 16 rfl rfl)
theorem dX11_swapEntries_64 : decode cX11_swapEntries 64 = .ok (.iload 5, 2) := dk_21 5 (dk_at dksX11_swapEntries_2 18 rfl rfl)
theorem dX11_swapEntries_66 : decode cX11_swapEntries 66 = .ok (.iastore, 1) := dk_79 (dk_at dksX11_swapEntries_2 20 rfl rfl)
theorem dX11_swapEntries_67 : decode cX11_swapEntries 67 = .ok (.return_, 1) := dk_177 (dk_at dksX11_swapEntries_2 21 rfl rfl)
abbrev cX11_setAttribute : ByteArray := prog_12_method_21_code
def yX11_setAttribute : MethodName := ⟨RX11, "setAttribute", "(II)V"⟩
def dkwX11_setAttribute_3 : List UInt8 := [180, 0, 54, 29, 42, 180, 0, 99, 28, 47, 80, 177]
abbrev dktX11_setAttribute_3 : List UInt8 := dkwX11_setAttribute_3 ++ []
def dkwX11_setAttribute_2 : List UInt8 := [79, 42, 180, 0, 51, 29, 42, 180, 0, 96, 28, 47, 80, 42, 180, 0, 45, 27, 92, 46, 4, 96, 79, 42]
abbrev dktX11_setAttribute_2 : List UInt8 := dkwX11_setAttribute_2 ++ dktX11_setAttribute_3
def dkwX11_setAttribute_1 : List UInt8 := [17, 2, 188, 27, 104, 42, 180, 0, 45, 27, 46, 96, 62, 42, 180, 0, 48, 29, 42, 180, 0, 80, 28, 46]
abbrev dktX11_setAttribute_1 : List UInt8 := dkwX11_setAttribute_1 ++ dktX11_setAttribute_2
def dkwX11_setAttribute_0 : List UInt8 := [42, 27, 42, 180, 0, 80, 28, 46, 42, 180, 0, 96, 28, 47, 182, 0, 172, 62, 29, 2, 160, 0, 50]
abbrev dktX11_setAttribute_0 : List UInt8 := dkwX11_setAttribute_0 ++ dktX11_setAttribute_1
theorem dksX11_setAttribute_0 : cX11_setAttribute.data.toList.drop 0 = dktX11_setAttribute_0 := by decide +kernel
theorem dksX11_setAttribute_1 : cX11_setAttribute.data.toList.drop 23 = dktX11_setAttribute_1 := dk_seg dksX11_setAttribute_0 23 rfl rfl
theorem dksX11_setAttribute_2 : cX11_setAttribute.data.toList.drop 47 = dktX11_setAttribute_2 := dk_seg dksX11_setAttribute_1 24 rfl rfl
theorem dksX11_setAttribute_3 : cX11_setAttribute.data.toList.drop 71 = dktX11_setAttribute_3 := dk_seg dksX11_setAttribute_2 24 rfl rfl
theorem dX11_setAttribute_0 : decode cX11_setAttribute 0 = .ok (.aload_n 0, 1) := dk_42 (dk_at dksX11_setAttribute_0 0 rfl rfl)
theorem dX11_setAttribute_1 : decode cX11_setAttribute 1 = .ok (.iload_n 1, 1) := dk_27 (dk_at dksX11_setAttribute_0 1 rfl rfl)
theorem dX11_setAttribute_2 : decode cX11_setAttribute 2 = .ok (.aload_n 0, 1) := dk_42 (dk_at dksX11_setAttribute_0 2 rfl rfl)
theorem dX11_setAttribute_3 : decode cX11_setAttribute 3 = .ok (.getfield 80, 3) := dk_180 0 80 (dk_at dksX11_setAttribute_0 3 rfl rfl)
theorem dX11_setAttribute_6 : decode cX11_setAttribute 6 = .ok (.iload_n 2, 1) := dk_28 (dk_at dksX11_setAttribute_0 6 rfl rfl)
theorem dX11_setAttribute_7 : decode cX11_setAttribute 7 = .ok (.iaload, 1) := dk_46 (dk_at dksX11_setAttribute_0 7 rfl rfl)
theorem dX11_setAttribute_8 : decode cX11_setAttribute 8 = .ok (.aload_n 0, 1) := dk_42 (dk_at dksX11_setAttribute_0 8 rfl rfl)
theorem dX11_setAttribute_9 : decode cX11_setAttribute 9 = .ok (.getfield 96, 3) := dk_180 0 96 (dk_at dksX11_setAttribute_0 9 rfl rfl)
theorem dX11_setAttribute_12 : decode cX11_setAttribute 12 = .ok (.iload_n 2, 1) := dk_28 (dk_at dksX11_setAttribute_0 12 rfl rfl)
theorem dX11_setAttribute_13 : decode cX11_setAttribute 13 = .ok (.laload, 1) := dk_47 (dk_at dksX11_setAttribute_0 13 rfl rfl)
theorem dX11_setAttribute_14 : decode cX11_setAttribute 14 = .ok (.invokevirtual 172, 3) := dk_182 0 172 (dk_at dksX11_setAttribute_0 14 rfl rfl)
theorem dX11_setAttribute_17 : decode cX11_setAttribute 17 = .ok (.istore_n 3, 1) := dk_62 (dk_at dksX11_setAttribute_0 17 rfl rfl)
theorem dX11_setAttribute_18 : decode cX11_setAttribute 18 = .ok (.iload_n 3, 1) := dk_29 (dk_at dksX11_setAttribute_0 18 rfl rfl)
theorem dX11_setAttribute_19 : decode cX11_setAttribute 19 = .ok (.iconst (-1), 1) := dk_2 (dk_at dksX11_setAttribute_0 19 rfl rfl)
theorem dX11_setAttribute_20 : decode cX11_setAttribute 20 = .ok (.if_icmp .ne 50, 3) := dk_160 0 50 (dk_at dksX11_setAttribute_0 20 rfl rfl)
theorem dX11_setAttribute_23 : decode cX11_setAttribute 23 = .ok (.sipush 700, 3) := dk_17 2 188 (dk_at dksX11_setAttribute_1 0 rfl rfl)
theorem dX11_setAttribute_26 : decode cX11_setAttribute 26 = .ok (.iload_n 1, 1) := dk_27 (dk_at dksX11_setAttribute_1 3 rfl rfl)
theorem dX11_setAttribute_27 : decode cX11_setAttribute 27 = .ok (.imul, 1) := dk_104 (dk_at dksX11_setAttribute_1 4 rfl rfl)
theorem dX11_setAttribute_28 : decode cX11_setAttribute 28 = .ok (.aload_n 0, 1) := dk_42 (dk_at dksX11_setAttribute_1 5 rfl rfl)
theorem dX11_setAttribute_29 : decode cX11_setAttribute 29 = .ok (.getfield 45, 3) := dk_180 0 45 (dk_at dksX11_setAttribute_1 6 rfl rfl)
theorem dX11_setAttribute_32 : decode cX11_setAttribute 32 = .ok (.iload_n 1, 1) := dk_27 (dk_at dksX11_setAttribute_1 9 rfl rfl)
theorem dX11_setAttribute_33 : decode cX11_setAttribute 33 = .ok (.iaload, 1) := dk_46 (dk_at dksX11_setAttribute_1 10 rfl rfl)
theorem dX11_setAttribute_34 : decode cX11_setAttribute 34 = .ok (.iadd, 1) := dk_96 (dk_at dksX11_setAttribute_1 11 rfl rfl)
theorem dX11_setAttribute_35 : decode cX11_setAttribute 35 = .ok (.istore_n 3, 1) := dk_62 (dk_at dksX11_setAttribute_1 12 rfl rfl)
theorem dX11_setAttribute_36 : decode cX11_setAttribute 36 = .ok (.aload_n 0, 1) := dk_42 (dk_at dksX11_setAttribute_1 13 rfl rfl)
theorem dX11_setAttribute_37 : decode cX11_setAttribute 37 = .ok (.getfield 48, 3) := dk_180 0 48 (dk_at dksX11_setAttribute_1 14 rfl rfl)
theorem dX11_setAttribute_40 : decode cX11_setAttribute 40 = .ok (.iload_n 3, 1) := dk_29 (dk_at dksX11_setAttribute_1 17 rfl rfl)
theorem dX11_setAttribute_41 : decode cX11_setAttribute 41 = .ok (.aload_n 0, 1) := dk_42 (dk_at dksX11_setAttribute_1 18 rfl rfl)
theorem dX11_setAttribute_42 : decode cX11_setAttribute 42 = .ok (.getfield 80, 3) := dk_180 0 80 (dk_at dksX11_setAttribute_1 19 rfl rfl)
theorem dX11_setAttribute_45 : decode cX11_setAttribute 45 = .ok (.iload_n 2, 1) := dk_28 (dk_at dksX11_setAttribute_1 22 rfl rfl)
theorem dX11_setAttribute_46 : decode cX11_setAttribute 46 = .ok (.iaload, 1) := dk_46 (dk_at dksX11_setAttribute_1 23 rfl rfl)
theorem dX11_setAttribute_47 : decode cX11_setAttribute 47 = .ok (.iastore, 1) := dk_79 (dk_at dksX11_setAttribute_2 0 rfl rfl)
theorem dX11_setAttribute_48 : decode cX11_setAttribute 48 = .ok (.aload_n 0, 1) := dk_42 (dk_at dksX11_setAttribute_2 1 rfl rfl)
theorem dX11_setAttribute_49 : decode cX11_setAttribute 49 = .ok (.getfield 51, 3) := dk_180 0 51 (dk_at dksX11_setAttribute_2 2 rfl rfl)
theorem dX11_setAttribute_52 : decode cX11_setAttribute 52 = .ok (.iload_n 3, 1) := dk_29 (dk_at dksX11_setAttribute_2 5 rfl rfl)
theorem dX11_setAttribute_53 : decode cX11_setAttribute 53 = .ok (.aload_n 0, 1) := dk_42 (dk_at dksX11_setAttribute_2 6 rfl rfl)
theorem dX11_setAttribute_54 : decode cX11_setAttribute 54 = .ok (.getfield 96, 3) := dk_180 0 96 (dk_at dksX11_setAttribute_2 7 rfl rfl)
theorem dX11_setAttribute_57 : decode cX11_setAttribute 57 = .ok (.iload_n 2, 1) := dk_28 (dk_at dksX11_setAttribute_2 10 rfl rfl)
theorem dX11_setAttribute_58 : decode cX11_setAttribute 58 = .ok (.laload, 1) := dk_47 (dk_at dksX11_setAttribute_2 11 rfl rfl)
theorem dX11_setAttribute_59 : decode cX11_setAttribute 59 = .ok (.lastore, 1) := dk_80 (dk_at dksX11_setAttribute_2 12 rfl rfl)
theorem dX11_setAttribute_60 : decode cX11_setAttribute 60 = .ok (.aload_n 0, 1) := dk_42 (dk_at dksX11_setAttribute_2 13 rfl rfl)
theorem dX11_setAttribute_61 : decode cX11_setAttribute 61 = .ok (.getfield 45, 3) := dk_180 0 45 (dk_at dksX11_setAttribute_2 14 rfl rfl)
theorem dX11_setAttribute_64 : decode cX11_setAttribute 64 = .ok (.iload_n 1, 1) := dk_27 (dk_at dksX11_setAttribute_2 17 rfl rfl)
theorem dX11_setAttribute_65 : decode cX11_setAttribute 65 = .ok (.dup2, 1) := dk_92 (dk_at dksX11_setAttribute_2 18 rfl rfl)
theorem dX11_setAttribute_66 : decode cX11_setAttribute 66 = .ok (.iaload, 1) := dk_46 (dk_at dksX11_setAttribute_2 19 rfl rfl)
theorem dX11_setAttribute_67 : decode cX11_setAttribute 67 = .ok (.iconst 1, 1) := dk_4 (dk_at dksX11_setAttribute_2 20 rfl rfl)
theorem dX11_setAttribute_68 : decode cX11_setAttribute 68 = .ok (.iadd, 1) := dk_96 (dk_at dksX11_setAttribute_2 21 rfl rfl)
theorem dX11_setAttribute_69 : decode cX11_setAttribute 69 = .ok (.iastore, 1) := dk_79 (dk_at dksX11_setAttribute_2 22 rfl rfl)
theorem dX11_setAttribute_70 : decode cX11_setAttribute 70 = .ok (.aload_n 0, 1) := dk_42 (dk_at dksX11_setAttribute_2 23 rfl rfl)
theorem dX11_setAttribute_71 : decode cX11_setAttribute 71 = .ok (.getfield 54, 3) := dk_180 0 54 (dk_at dksX11_setAttribute_3 0 rfl rfl)
theorem dX11_setAttribute_74 : decode cX11_setAttribute 74 = .ok (.iload_n 3, 1) := dk_29 (dk_at dksX11_setAttribute_3 3 rfl rfl)
theorem dX11_setAttribute_75 : decode cX11_setAttribute 75 = .ok (.aload_n 0, 1) := dk_42 (dk_at dksX11_setAttribute_3 4 rfl rfl)
theorem dX11_setAttribute_76 : decode cX11_setAttribute 76 = .ok (.getfield 99, 3) := dk_180 0 99 (dk_at dksX11_setAttribute_3 5 rfl rfl)
theorem dX11_setAttribute_79 : decode cX11_setAttribute 79 = .ok (.iload_n 2, 1) := dk_28 (dk_at dksX11_setAttribute_3 8 rfl rfl)
theorem dX11_setAttribute_80 : decode cX11_setAttribute 80 = .ok (.laload, 1) := dk_47 (dk_at dksX11_setAttribute_3 9 rfl rfl)
theorem dX11_setAttribute_81 : decode cX11_setAttribute 81 = .ok (.lastore, 1) := dk_80 (dk_at dksX11_setAttribute_3 10 rfl rfl)
theorem dX11_setAttribute_82 : decode cX11_setAttribute 82 = .ok (.return_, 1) := dk_177 (dk_at dksX11_setAttribute_3 11 rfl rfl)
abbrev cX11_attributeOf : ByteArray := prog_12_method_8_code
def yX11_attributeOf : MethodName := ⟨RX11, "attributeOf", "(IIJ)I"⟩
def dkwX11_attributeOf_2 : List UInt8 := [154, 0, 8, 21, 6, 167, 0, 5, 21, 5, 54, 5, 132, 6, 1, 167, 255, 204, 21, 5, 172]
abbrev dktX11_attributeOf_2 : List UInt8 := dkwX11_attributeOf_2 ++ []
def dkwX11_attributeOf_1 : List UInt8 := [162, 0, 41, 42, 180, 0, 48, 21, 6, 46, 28, 160, 0, 20, 42, 180, 0, 51, 21, 6, 47, 33, 148]
abbrev dktX11_attributeOf_1 : List UInt8 := dkwX11_attributeOf_1 ++ dktX11_attributeOf_2
def dkwX11_attributeOf_0 : List UInt8 := [2, 54, 5, 17, 2, 188, 27, 104, 54, 6, 21, 6, 17, 2, 188, 27, 104, 42, 180, 0, 45, 27, 46, 96]
abbrev dktX11_attributeOf_0 : List UInt8 := dkwX11_attributeOf_0 ++ dktX11_attributeOf_1
theorem dksX11_attributeOf_0 : cX11_attributeOf.data.toList.drop 0 = dktX11_attributeOf_0 := by decide +kernel
theorem dksX11_attributeOf_1 : cX11_attributeOf.data.toList.drop 24 = dktX11_attributeOf_1 := dk_seg dksX11_attributeOf_0 24 rfl rfl
theorem dksX11_attributeOf_2 : cX11_attributeOf.data.toList.drop 47 = dktX11_attributeOf_2 := dk_seg dksX11_attributeOf_1 23 rfl rfl
theorem dX11_attributeOf_0 : decode cX11_attributeOf 0 = .ok (.iconst (-1), 1) := dk_2 (dk_at dksX11_attributeOf_0 0 rfl rfl)
theorem dX11_attributeOf_1 : decode cX11_attributeOf 1 = .ok (.istore 5, 2) := dk_54 5 (dk_at dksX11_attributeOf_0 1 rfl rfl)
theorem dX11_attributeOf_3 : decode cX11_attributeOf 3 = .ok (.sipush 700, 3) := dk_17 2 188 (dk_at dksX11_attributeOf_0 3 rfl rfl)
theorem dX11_attributeOf_6 : decode cX11_attributeOf 6 = .ok (.iload_n 1, 1) := dk_27 (dk_at dksX11_attributeOf_0 6 rfl rfl)
theorem dX11_attributeOf_7 : decode cX11_attributeOf 7 = .ok (.imul, 1) := dk_104 (dk_at dksX11_attributeOf_0 7 rfl rfl)
theorem dX11_attributeOf_8 : decode cX11_attributeOf 8 = .ok (.istore 6, 2) := dk_54 6 (dk_at dksX11_attributeOf_0 8 rfl rfl)
theorem dX11_attributeOf_10 : decode cX11_attributeOf 10 = .ok (.iload 6, 2) := dk_21 6 (dk_at dksX11_attributeOf_0 10 rfl rfl)
theorem dX11_attributeOf_12 : decode cX11_attributeOf 12 = .ok (.sipush 700, 3) := dk_17 2 188 (dk_at dksX11_attributeOf_0 12 rfl rfl)
theorem dX11_attributeOf_15 : decode cX11_attributeOf 15 = .ok (.iload_n 1, 1) := dk_27 (dk_at dksX11_attributeOf_0 15 rfl rfl)
theorem dX11_attributeOf_16 : decode cX11_attributeOf 16 = .ok (.imul, 1) := dk_104 (dk_at dksX11_attributeOf_0 16 rfl rfl)
theorem dX11_attributeOf_17 : decode cX11_attributeOf 17 = .ok (.aload_n 0, 1) := dk_42 (dk_at dksX11_attributeOf_0 17 rfl rfl)
theorem dX11_attributeOf_18 : decode cX11_attributeOf 18 = .ok (.getfield 45, 3) := dk_180 0 45 (dk_at dksX11_attributeOf_0 18 rfl rfl)
theorem dX11_attributeOf_21 : decode cX11_attributeOf 21 = .ok (.iload_n 1, 1) := dk_27 (dk_at dksX11_attributeOf_0 21 rfl rfl)
theorem dX11_attributeOf_22 : decode cX11_attributeOf 22 = .ok (.iaload, 1) := dk_46 (dk_at dksX11_attributeOf_0 22 rfl rfl)
theorem dX11_attributeOf_23 : decode cX11_attributeOf 23 = .ok (.iadd, 1) := dk_96 (dk_at dksX11_attributeOf_0 23 rfl rfl)
theorem dX11_attributeOf_24 : decode cX11_attributeOf 24 = .ok (.if_icmp .ge 41, 3) := dk_162 0 41 (dk_at dksX11_attributeOf_1 0 rfl rfl)
theorem dX11_attributeOf_27 : decode cX11_attributeOf 27 = .ok (.aload_n 0, 1) := dk_42 (dk_at dksX11_attributeOf_1 3 rfl rfl)
theorem dX11_attributeOf_28 : decode cX11_attributeOf 28 = .ok (.getfield 48, 3) := dk_180 0 48 (dk_at dksX11_attributeOf_1 4 rfl rfl)
theorem dX11_attributeOf_31 : decode cX11_attributeOf 31 = .ok (.iload 6, 2) := dk_21 6 (dk_at dksX11_attributeOf_1 7 rfl rfl)
theorem dX11_attributeOf_33 : decode cX11_attributeOf 33 = .ok (.iaload, 1) := dk_46 (dk_at dksX11_attributeOf_1 9 rfl rfl)
theorem dX11_attributeOf_34 : decode cX11_attributeOf 34 = .ok (.iload_n 2, 1) := dk_28 (dk_at dksX11_attributeOf_1 10 rfl rfl)
theorem dX11_attributeOf_35 : decode cX11_attributeOf 35 = .ok (.if_icmp .ne 20, 3) := dk_160 0 20 (dk_at dksX11_attributeOf_1 11 rfl rfl)
theorem dX11_attributeOf_38 : decode cX11_attributeOf 38 = .ok (.aload_n 0, 1) := dk_42 (dk_at dksX11_attributeOf_1 14 rfl rfl)
theorem dX11_attributeOf_39 : decode cX11_attributeOf 39 = .ok (.getfield 51, 3) := dk_180 0 51 (dk_at dksX11_attributeOf_1 15 rfl rfl)
theorem dX11_attributeOf_42 : decode cX11_attributeOf 42 = .ok (.iload 6, 2) := dk_21 6 (dk_at dksX11_attributeOf_1 18 rfl rfl)
theorem dX11_attributeOf_44 : decode cX11_attributeOf 44 = .ok (.laload, 1) := dk_47 (dk_at dksX11_attributeOf_1 20 rfl rfl)
theorem dX11_attributeOf_45 : decode cX11_attributeOf 45 = .ok (.lload_n 3, 1) := dk_33 (dk_at dksX11_attributeOf_1 21 rfl rfl)
theorem dX11_attributeOf_46 : decode cX11_attributeOf 46 = .ok (.lcmp, 1) := dk_148 (dk_at dksX11_attributeOf_1 22 rfl rfl)
theorem dX11_attributeOf_47 : decode cX11_attributeOf 47 = .ok (.ifCond .ne 8, 3) := dk_154 0 8 (dk_at dksX11_attributeOf_2 0 rfl rfl)
theorem dX11_attributeOf_50 : decode cX11_attributeOf 50 = .ok (.iload 6, 2) := dk_21 6 (dk_at dksX11_attributeOf_2 3 rfl rfl)
theorem dX11_attributeOf_52 : decode cX11_attributeOf 52 = .ok (.goto 5, 3) := dk_167 0 5 (dk_at dksX11_attributeOf_2 5 rfl rfl)
theorem dX11_attributeOf_55 : decode cX11_attributeOf 55 = .ok (.iload 5, 2) := dk_21 5 (dk_at dksX11_attributeOf_2 8 rfl rfl)
theorem dX11_attributeOf_57 : decode cX11_attributeOf 57 = .ok (.istore 5, 2) := dk_54 5 (dk_at dksX11_attributeOf_2 10 rfl rfl)
theorem dX11_attributeOf_59 : decode cX11_attributeOf 59 = .ok (.iinc 6 1, 3) := dk_132 6 1 (dk_at dksX11_attributeOf_2 12 rfl rfl)
theorem dX11_attributeOf_62 : decode cX11_attributeOf 62 = .ok (.goto (-52), 3) := dk_167 255 204 (dk_at dksX11_attributeOf_2 15 rfl rfl)
theorem dX11_attributeOf_65 : decode cX11_attributeOf 65 = .ok (.iload 5, 2) := dk_21 5 (dk_at dksX11_attributeOf_2 18 rfl rfl)
theorem dX11_attributeOf_67 : decode cX11_attributeOf 67 = .ok (.ireturn, 1) := dk_172 (dk_at dksX11_attributeOf_2 20 rfl rfl)
abbrev cX11_becomesSafe : ByteArray := prog_12_method_24_code
def yX11_becomesSafe : MethodName := ⟨RX11, "becomesSafe", "(I)V"⟩
def dkwX11_becomesSafe_8 : List UInt8 := [180, 0, 195, 27, 100, 181, 0, 195, 177]
abbrev dktX11_becomesSafe_8 : List UInt8 := dkwX11_becomesSafe_8 ++ []
def dkwX11_becomesSafe_7 : List UInt8 := [16, 64, 28, 104, 21, 4, 96, 51, 84, 132, 4, 1, 167, 255, 222, 132, 2, 1, 167, 255, 93, 42, 89]
abbrev dktX11_becomesSafe_7 : List UInt8 := dkwX11_becomesSafe_7 ++ dktX11_becomesSafe_8
def dkwX11_becomesSafe_6 : List UInt8 := [54, 4, 21, 4, 16, 64, 162, 0, 33, 42, 180, 0, 102, 16, 64, 29, 104, 21, 4, 96, 42, 180, 0, 102]
abbrev dktX11_becomesSafe_6 : List UInt8 := dkwX11_becomesSafe_6 ++ dktX11_becomesSafe_7
def dkwX11_becomesSafe_5 : List UInt8 := [180, 0, 96, 29, 42, 180, 0, 96, 28, 47, 80, 42, 180, 0, 99, 29, 42, 180, 0, 99, 28, 47, 80, 3]
abbrev dktX11_becomesSafe_5 : List UInt8 := dkwX11_becomesSafe_5 ++ dktX11_becomesSafe_6
def dkwX11_becomesSafe_4 : List UInt8 := [180, 0, 89, 29, 42, 180, 0, 89, 28, 46, 79, 42, 180, 0, 92, 29, 42, 180, 0, 92, 28, 51, 84, 42]
abbrev dktX11_becomesSafe_4 : List UInt8 := dkwX11_becomesSafe_4 ++ dktX11_becomesSafe_5
def dkwX11_becomesSafe_3 : List UInt8 := [180, 0, 83, 29, 42, 180, 0, 83, 28, 46, 79, 42, 180, 0, 86, 29, 42, 180, 0, 86, 28, 46, 79, 42]
abbrev dktX11_becomesSafe_3 : List UInt8 := dkwX11_becomesSafe_3 ++ dktX11_becomesSafe_4
def dkwX11_becomesSafe_2 : List UInt8 := [180, 0, 77, 29, 42, 180, 0, 77, 28, 46, 79, 42, 180, 0, 80, 29, 42, 180, 0, 80, 28, 46, 79, 42]
abbrev dktX11_becomesSafe_2 : List UInt8 := dkwX11_becomesSafe_2 ++ dktX11_becomesSafe_3
def dkwX11_becomesSafe_1 : List UInt8 := [180, 0, 195, 162, 0, 161, 28, 27, 100, 62, 42, 180, 0, 74, 29, 42, 180, 0, 74, 28, 46, 79, 42]
abbrev dktX11_becomesSafe_1 : List UInt8 := dkwX11_becomesSafe_1 ++ dktX11_becomesSafe_2
def dkwX11_becomesSafe_0 : List UInt8 := [3, 61, 28, 27, 162, 0, 15, 42, 4, 28, 182, 0, 198, 132, 2, 1, 167, 255, 242, 27, 61, 28, 42]
abbrev dktX11_becomesSafe_0 : List UInt8 := dkwX11_becomesSafe_0 ++ dktX11_becomesSafe_1
theorem dksX11_becomesSafe_0 : cX11_becomesSafe.data.toList.drop 0 = dktX11_becomesSafe_0 := by decide +kernel
theorem dksX11_becomesSafe_1 : cX11_becomesSafe.data.toList.drop 23 = dktX11_becomesSafe_1 := dk_seg dksX11_becomesSafe_0 23 rfl rfl
theorem dksX11_becomesSafe_2 : cX11_becomesSafe.data.toList.drop 46 = dktX11_becomesSafe_2 := dk_seg dksX11_becomesSafe_1 23 rfl rfl
theorem dksX11_becomesSafe_3 : cX11_becomesSafe.data.toList.drop 70 = dktX11_becomesSafe_3 := dk_seg dksX11_becomesSafe_2 24 rfl rfl
theorem dksX11_becomesSafe_4 : cX11_becomesSafe.data.toList.drop 94 = dktX11_becomesSafe_4 := dk_seg dksX11_becomesSafe_3 24 rfl rfl
theorem dksX11_becomesSafe_5 : cX11_becomesSafe.data.toList.drop 118 = dktX11_becomesSafe_5 := dk_seg dksX11_becomesSafe_4 24 rfl rfl
theorem dksX11_becomesSafe_6 : cX11_becomesSafe.data.toList.drop 142 = dktX11_becomesSafe_6 := dk_seg dksX11_becomesSafe_5 24 rfl rfl
theorem dksX11_becomesSafe_7 : cX11_becomesSafe.data.toList.drop 166 = dktX11_becomesSafe_7 := dk_seg dksX11_becomesSafe_6 24 rfl rfl
theorem dksX11_becomesSafe_8 : cX11_becomesSafe.data.toList.drop 189 = dktX11_becomesSafe_8 := dk_seg dksX11_becomesSafe_7 23 rfl rfl
theorem dX11_becomesSafe_0 : decode cX11_becomesSafe 0 = .ok (.iconst 0, 1) := dk_3 (dk_at dksX11_becomesSafe_0 0 rfl rfl)
theorem dX11_becomesSafe_1 : decode cX11_becomesSafe 1 = .ok (.istore_n 2, 1) := dk_61 (dk_at dksX11_becomesSafe_0 1 rfl rfl)
theorem dX11_becomesSafe_2 : decode cX11_becomesSafe 2 = .ok (.iload_n 2, 1) := dk_28 (dk_at dksX11_becomesSafe_0 2 rfl rfl)
theorem dX11_becomesSafe_3 : decode cX11_becomesSafe 3 = .ok (.iload_n 1, 1) := dk_27 (dk_at dksX11_becomesSafe_0 3 rfl rfl)
theorem dX11_becomesSafe_4 : decode cX11_becomesSafe 4 = .ok (.if_icmp .ge 15, 3) := dk_162 0 15 (dk_at dksX11_becomesSafe_0 4 rfl rfl)
theorem dX11_becomesSafe_7 : decode cX11_becomesSafe 7 = .ok (.aload_n 0, 1) := dk_42 (dk_at dksX11_becomesSafe_0 7 rfl rfl)
theorem dX11_becomesSafe_8 : decode cX11_becomesSafe 8 = .ok (.iconst 1, 1) := dk_4 (dk_at dksX11_becomesSafe_0 8 rfl rfl)
theorem dX11_becomesSafe_9 : decode cX11_becomesSafe 9 = .ok (.iload_n 2, 1) := dk_28 (dk_at dksX11_becomesSafe_0 9 rfl rfl)
theorem dX11_becomesSafe_10 : decode cX11_becomesSafe 10 = .ok (.invokevirtual 198, 3) := dk_182 0 198 (dk_at dksX11_becomesSafe_0 10 rfl rfl)
theorem dX11_becomesSafe_13 : decode cX11_becomesSafe 13 = .ok (.iinc 2 1, 3) := dk_132 2 1 (dk_at dksX11_becomesSafe_0 13 rfl rfl)
theorem dX11_becomesSafe_16 : decode cX11_becomesSafe 16 = .ok (.goto (-14), 3) := dk_167 255 242 (dk_at dksX11_becomesSafe_0 16 rfl rfl)
theorem dX11_becomesSafe_19 : decode cX11_becomesSafe 19 = .ok (.iload_n 1, 1) := dk_27 (dk_at dksX11_becomesSafe_0 19 rfl rfl)
theorem dX11_becomesSafe_20 : decode cX11_becomesSafe 20 = .ok (.istore_n 2, 1) := dk_61 (dk_at dksX11_becomesSafe_0 20 rfl rfl)
theorem dX11_becomesSafe_21 : decode cX11_becomesSafe 21 = .ok (.iload_n 2, 1) := dk_28 (dk_at dksX11_becomesSafe_0 21 rfl rfl)
theorem dX11_becomesSafe_22 : decode cX11_becomesSafe 22 = .ok (.aload_n 0, 1) := dk_42 (dk_at dksX11_becomesSafe_0 22 rfl rfl)
theorem dX11_becomesSafe_23 : decode cX11_becomesSafe 23 = .ok (.getfield 195, 3) := dk_180 0 195 (dk_at dksX11_becomesSafe_1 0 rfl rfl)
theorem dX11_becomesSafe_26 : decode cX11_becomesSafe 26 = .ok (.if_icmp .ge 161, 3) := dk_162 0 161 (dk_at dksX11_becomesSafe_1 3 rfl rfl)
theorem dX11_becomesSafe_29 : decode cX11_becomesSafe 29 = .ok (.iload_n 2, 1) := dk_28 (dk_at dksX11_becomesSafe_1 6 rfl rfl)
theorem dX11_becomesSafe_30 : decode cX11_becomesSafe 30 = .ok (.iload_n 1, 1) := dk_27 (dk_at dksX11_becomesSafe_1 7 rfl rfl)
theorem dX11_becomesSafe_31 : decode cX11_becomesSafe 31 = .ok (.isub, 1) := dk_100 (dk_at dksX11_becomesSafe_1 8 rfl rfl)
theorem dX11_becomesSafe_32 : decode cX11_becomesSafe 32 = .ok (.istore_n 3, 1) := dk_62 (dk_at dksX11_becomesSafe_1 9 rfl rfl)
theorem dX11_becomesSafe_33 : decode cX11_becomesSafe 33 = .ok (.aload_n 0, 1) := dk_42 (dk_at dksX11_becomesSafe_1 10 rfl rfl)
theorem dX11_becomesSafe_34 : decode cX11_becomesSafe 34 = .ok (.getfield 74, 3) := dk_180 0 74 (dk_at dksX11_becomesSafe_1 11 rfl rfl)
theorem dX11_becomesSafe_37 : decode cX11_becomesSafe 37 = .ok (.iload_n 3, 1) := dk_29 (dk_at dksX11_becomesSafe_1 14 rfl rfl)
theorem dX11_becomesSafe_38 : decode cX11_becomesSafe 38 = .ok (.aload_n 0, 1) := dk_42 (dk_at dksX11_becomesSafe_1 15 rfl rfl)
theorem dX11_becomesSafe_39 : decode cX11_becomesSafe 39 = .ok (.getfield 74, 3) := dk_180 0 74 (dk_at dksX11_becomesSafe_1 16 rfl rfl)
theorem dX11_becomesSafe_42 : decode cX11_becomesSafe 42 = .ok (.iload_n 2, 1) := dk_28 (dk_at dksX11_becomesSafe_1 19 rfl rfl)
theorem dX11_becomesSafe_43 : decode cX11_becomesSafe 43 = .ok (.iaload, 1) := dk_46 (dk_at dksX11_becomesSafe_1 20 rfl rfl)
theorem dX11_becomesSafe_44 : decode cX11_becomesSafe 44 = .ok (.iastore, 1) := dk_79 (dk_at dksX11_becomesSafe_1 21 rfl rfl)
theorem dX11_becomesSafe_45 : decode cX11_becomesSafe 45 = .ok (.aload_n 0, 1) := dk_42 (dk_at dksX11_becomesSafe_1 22 rfl rfl)
theorem dX11_becomesSafe_46 : decode cX11_becomesSafe 46 = .ok (.getfield 77, 3) := dk_180 0 77 (dk_at dksX11_becomesSafe_2 0 rfl rfl)
theorem dX11_becomesSafe_49 : decode cX11_becomesSafe 49 = .ok (.iload_n 3, 1) := dk_29 (dk_at dksX11_becomesSafe_2 3 rfl rfl)
theorem dX11_becomesSafe_50 : decode cX11_becomesSafe 50 = .ok (.aload_n 0, 1) := dk_42 (dk_at dksX11_becomesSafe_2 4 rfl rfl)
theorem dX11_becomesSafe_51 : decode cX11_becomesSafe 51 = .ok (.getfield 77, 3) := dk_180 0 77 (dk_at dksX11_becomesSafe_2 5 rfl rfl)
theorem dX11_becomesSafe_54 : decode cX11_becomesSafe 54 = .ok (.iload_n 2, 1) := dk_28 (dk_at dksX11_becomesSafe_2 8 rfl rfl)
theorem dX11_becomesSafe_55 : decode cX11_becomesSafe 55 = .ok (.iaload, 1) := dk_46 (dk_at dksX11_becomesSafe_2 9 rfl rfl)
theorem dX11_becomesSafe_56 : decode cX11_becomesSafe 56 = .ok (.iastore, 1) := dk_79 (dk_at dksX11_becomesSafe_2 10 rfl rfl)
theorem dX11_becomesSafe_57 : decode cX11_becomesSafe 57 = .ok (.aload_n 0, 1) := dk_42 (dk_at dksX11_becomesSafe_2 11 rfl rfl)
theorem dX11_becomesSafe_58 : decode cX11_becomesSafe 58 = .ok (.getfield 80, 3) := dk_180 0 80 (dk_at dksX11_becomesSafe_2 12 rfl rfl)
theorem dX11_becomesSafe_61 : decode cX11_becomesSafe 61 = .ok (.iload_n 3, 1) := dk_29 (dk_at dksX11_becomesSafe_2 15 rfl rfl)
theorem dX11_becomesSafe_62 : decode cX11_becomesSafe 62 = .ok (.aload_n 0, 1) := dk_42 (dk_at dksX11_becomesSafe_2 16 rfl rfl)
theorem dX11_becomesSafe_63 : decode cX11_becomesSafe 63 = .ok (.getfield 80, 3) := dk_180 0 80 (dk_at dksX11_becomesSafe_2 17 rfl rfl)
theorem dX11_becomesSafe_66 : decode cX11_becomesSafe 66 = .ok (.iload_n 2, 1) := dk_28 (dk_at dksX11_becomesSafe_2 20 rfl rfl)
theorem dX11_becomesSafe_67 : decode cX11_becomesSafe 67 = .ok (.iaload, 1) := dk_46 (dk_at dksX11_becomesSafe_2 21 rfl rfl)
theorem dX11_becomesSafe_68 : decode cX11_becomesSafe 68 = .ok (.iastore, 1) := dk_79 (dk_at dksX11_becomesSafe_2 22 rfl rfl)
theorem dX11_becomesSafe_69 : decode cX11_becomesSafe 69 = .ok (.aload_n 0, 1) := dk_42 (dk_at dksX11_becomesSafe_2 23 rfl rfl)
theorem dX11_becomesSafe_70 : decode cX11_becomesSafe 70 = .ok (.getfield 83, 3) := dk_180 0 83 (dk_at dksX11_becomesSafe_3 0 rfl rfl)
theorem dX11_becomesSafe_73 : decode cX11_becomesSafe 73 = .ok (.iload_n 3, 1) := dk_29 (dk_at dksX11_becomesSafe_3 3 rfl rfl)
theorem dX11_becomesSafe_74 : decode cX11_becomesSafe 74 = .ok (.aload_n 0, 1) := dk_42 (dk_at dksX11_becomesSafe_3 4 rfl rfl)
theorem dX11_becomesSafe_75 : decode cX11_becomesSafe 75 = .ok (.getfield 83, 3) := dk_180 0 83 (dk_at dksX11_becomesSafe_3 5 rfl rfl)
theorem dX11_becomesSafe_78 : decode cX11_becomesSafe 78 = .ok (.iload_n 2, 1) := dk_28 (dk_at dksX11_becomesSafe_3 8 rfl rfl)
theorem dX11_becomesSafe_79 : decode cX11_becomesSafe 79 = .ok (.iaload, 1) := dk_46 (dk_at dksX11_becomesSafe_3 9 rfl rfl)
theorem dX11_becomesSafe_80 : decode cX11_becomesSafe 80 = .ok (.iastore, 1) := dk_79 (dk_at dksX11_becomesSafe_3 10 rfl rfl)
theorem dX11_becomesSafe_81 : decode cX11_becomesSafe 81 = .ok (.aload_n 0, 1) := dk_42 (dk_at dksX11_becomesSafe_3 11 rfl rfl)
theorem dX11_becomesSafe_82 : decode cX11_becomesSafe 82 = .ok (.getfield 86, 3) := dk_180 0 86 (dk_at dksX11_becomesSafe_3 12 rfl rfl)
theorem dX11_becomesSafe_85 : decode cX11_becomesSafe 85 = .ok (.iload_n 3, 1) := dk_29 (dk_at dksX11_becomesSafe_3 15 rfl rfl)
theorem dX11_becomesSafe_86 : decode cX11_becomesSafe 86 = .ok (.aload_n 0, 1) := dk_42 (dk_at dksX11_becomesSafe_3 16 rfl rfl)
theorem dX11_becomesSafe_87 : decode cX11_becomesSafe 87 = .ok (.getfield 86, 3) := dk_180 0 86 (dk_at dksX11_becomesSafe_3 17 rfl rfl)
theorem dX11_becomesSafe_90 : decode cX11_becomesSafe 90 = .ok (.iload_n 2, 1) := dk_28 (dk_at dksX11_becomesSafe_3 20 rfl rfl)
theorem dX11_becomesSafe_91 : decode cX11_becomesSafe 91 = .ok (.iaload, 1) := dk_46 (dk_at dksX11_becomesSafe_3 21 rfl rfl)
theorem dX11_becomesSafe_92 : decode cX11_becomesSafe 92 = .ok (.iastore, 1) := dk_79 (dk_at dksX11_becomesSafe_3 22 rfl rfl)
theorem dX11_becomesSafe_93 : decode cX11_becomesSafe 93 = .ok (.aload_n 0, 1) := dk_42 (dk_at dksX11_becomesSafe_3 23 rfl rfl)
theorem dX11_becomesSafe_94 : decode cX11_becomesSafe 94 = .ok (.getfield 89, 3) := dk_180 0 89 (dk_at dksX11_becomesSafe_4 0 rfl rfl)
theorem dX11_becomesSafe_97 : decode cX11_becomesSafe 97 = .ok (.iload_n 3, 1) := dk_29 (dk_at dksX11_becomesSafe_4 3 rfl rfl)
theorem dX11_becomesSafe_98 : decode cX11_becomesSafe 98 = .ok (.aload_n 0, 1) := dk_42 (dk_at dksX11_becomesSafe_4 4 rfl rfl)
theorem dX11_becomesSafe_99 : decode cX11_becomesSafe 99 = .ok (.getfield 89, 3) := dk_180 0 89 (dk_at dksX11_becomesSafe_4 5 rfl rfl)
theorem dX11_becomesSafe_102 : decode cX11_becomesSafe 102 = .ok (.iload_n 2, 1) := dk_28 (dk_at dksX11_becomesSafe_4 8 rfl rfl)
theorem dX11_becomesSafe_103 : decode cX11_becomesSafe 103 = .ok (.iaload, 1) := dk_46 (dk_at dksX11_becomesSafe_4 9 rfl rfl)
theorem dX11_becomesSafe_104 : decode cX11_becomesSafe 104 = .ok (.iastore, 1) := dk_79 (dk_at dksX11_becomesSafe_4 10 rfl rfl)
theorem dX11_becomesSafe_105 : decode cX11_becomesSafe 105 = .ok (.aload_n 0, 1) := dk_42 (dk_at dksX11_becomesSafe_4 11 rfl rfl)
theorem dX11_becomesSafe_106 : decode cX11_becomesSafe 106 = .ok (.getfield 92, 3) := dk_180 0 92 (dk_at dksX11_becomesSafe_4 12 rfl rfl)
theorem dX11_becomesSafe_109 : decode cX11_becomesSafe 109 = .ok (.iload_n 3, 1) := dk_29 (dk_at dksX11_becomesSafe_4 15 rfl rfl)
theorem dX11_becomesSafe_110 : decode cX11_becomesSafe 110 = .ok (.aload_n 0, 1) := dk_42 (dk_at dksX11_becomesSafe_4 16 rfl rfl)
theorem dX11_becomesSafe_111 : decode cX11_becomesSafe 111 = .ok (.getfield 92, 3) := dk_180 0 92 (dk_at dksX11_becomesSafe_4 17 rfl rfl)
theorem dX11_becomesSafe_114 : decode cX11_becomesSafe 114 = .ok (.iload_n 2, 1) := dk_28 (dk_at dksX11_becomesSafe_4 20 rfl rfl)
theorem dX11_becomesSafe_115 : decode cX11_becomesSafe 115 = .ok (.baload, 1) := dk_51 (dk_at dksX11_becomesSafe_4 21 rfl rfl)
theorem dX11_becomesSafe_116 : decode cX11_becomesSafe 116 = .ok (.bastore, 1) := dk_84 (dk_at dksX11_becomesSafe_4 22 rfl rfl)
theorem dX11_becomesSafe_117 : decode cX11_becomesSafe 117 = .ok (.aload_n 0, 1) := dk_42 (dk_at dksX11_becomesSafe_4 23 rfl rfl)
theorem dX11_becomesSafe_118 : decode cX11_becomesSafe 118 = .ok (.getfield 96, 3) := dk_180 0 96 (dk_at dksX11_becomesSafe_5 0 rfl rfl)
theorem dX11_becomesSafe_121 : decode cX11_becomesSafe 121 = .ok (.iload_n 3, 1) := dk_29 (dk_at dksX11_becomesSafe_5 3 rfl rfl)
theorem dX11_becomesSafe_122 : decode cX11_becomesSafe 122 = .ok (.aload_n 0, 1) := dk_42 (dk_at dksX11_becomesSafe_5 4 rfl rfl)
theorem dX11_becomesSafe_123 : decode cX11_becomesSafe 123 = .ok (.getfield 96, 3) := dk_180 0 96 (dk_at dksX11_becomesSafe_5 5 rfl rfl)
theorem dX11_becomesSafe_126 : decode cX11_becomesSafe 126 = .ok (.iload_n 2, 1) := dk_28 (dk_at dksX11_becomesSafe_5 8 rfl rfl)
theorem dX11_becomesSafe_127 : decode cX11_becomesSafe 127 = .ok (.laload, 1) := dk_47 (dk_at dksX11_becomesSafe_5 9 rfl rfl)
theorem dX11_becomesSafe_128 : decode cX11_becomesSafe 128 = .ok (.lastore, 1) := dk_80 (dk_at dksX11_becomesSafe_5 10 rfl rfl)
theorem dX11_becomesSafe_129 : decode cX11_becomesSafe 129 = .ok (.aload_n 0, 1) := dk_42 (dk_at dksX11_becomesSafe_5 11 rfl rfl)
theorem dX11_becomesSafe_130 : decode cX11_becomesSafe 130 = .ok (.getfield 99, 3) := dk_180 0 99 (dk_at dksX11_becomesSafe_5 12 rfl rfl)
theorem dX11_becomesSafe_133 : decode cX11_becomesSafe 133 = .ok (.iload_n 3, 1) := dk_29 (dk_at dksX11_becomesSafe_5 15 rfl rfl)
theorem dX11_becomesSafe_134 : decode cX11_becomesSafe 134 = .ok (.aload_n 0, 1) := dk_42 (dk_at dksX11_becomesSafe_5 16 rfl rfl)
theorem dX11_becomesSafe_135 : decode cX11_becomesSafe 135 = .ok (.getfield 99, 3) := dk_180 0 99 (dk_at dksX11_becomesSafe_5 17 rfl rfl)
theorem dX11_becomesSafe_138 : decode cX11_becomesSafe 138 = .ok (.iload_n 2, 1) := dk_28 (dk_at dksX11_becomesSafe_5 20 rfl rfl)
theorem dX11_becomesSafe_139 : decode cX11_becomesSafe 139 = .ok (.laload, 1) := dk_47 (dk_at dksX11_becomesSafe_5 21 rfl rfl)
theorem dX11_becomesSafe_140 : decode cX11_becomesSafe 140 = .ok (.lastore, 1) := dk_80 (dk_at dksX11_becomesSafe_5 22 rfl rfl)
theorem dX11_becomesSafe_141 : decode cX11_becomesSafe 141 = .ok (.iconst 0, 1) := dk_3 (dk_at dksX11_becomesSafe_5 23 rfl rfl)
theorem dX11_becomesSafe_142 : decode cX11_becomesSafe 142 = .ok (.istore 4, 2) := dk_54 4 (dk_at dksX11_becomesSafe_6 0 rfl rfl)
theorem dX11_becomesSafe_144 : decode cX11_becomesSafe 144 = .ok (.iload 4, 2) := dk_21 4 (dk_at dksX11_becomesSafe_6 2 rfl rfl)
theorem dX11_becomesSafe_146 : decode cX11_becomesSafe 146 = .ok (.bipush 64, 2) := dk_16 64 (dk_at dksX11_becomesSafe_6 4 rfl rfl)
theorem dX11_becomesSafe_148 : decode cX11_becomesSafe 148 = .ok (.if_icmp .ge 33, 3) := dk_162 0 33 (dk_at dksX11_becomesSafe_6 6 rfl rfl)
theorem dX11_becomesSafe_151 : decode cX11_becomesSafe 151 = .ok (.aload_n 0, 1) := dk_42 (dk_at dksX11_becomesSafe_6 9 rfl rfl)
theorem dX11_becomesSafe_152 : decode cX11_becomesSafe 152 = .ok (.getfield 102, 3) := dk_180 0 102 (dk_at dksX11_becomesSafe_6 10 rfl rfl)
theorem dX11_becomesSafe_155 : decode cX11_becomesSafe 155 = .ok (.bipush 64, 2) := dk_16 64 (dk_at dksX11_becomesSafe_6 13 rfl rfl)
theorem dX11_becomesSafe_157 : decode cX11_becomesSafe 157 = .ok (.iload_n 3, 1) := dk_29 (dk_at dksX11_becomesSafe_6 15 rfl rfl)
theorem dX11_becomesSafe_158 : decode cX11_becomesSafe 158 = .ok (.imul, 1) := dk_104 (dk_at dksX11_becomesSafe_6 16 rfl rfl)
theorem dX11_becomesSafe_159 : decode cX11_becomesSafe 159 = .ok (.iload 4, 2) := dk_21 4 (dk_at dksX11_becomesSafe_6 17 rfl rfl)
theorem dX11_becomesSafe_161 : decode cX11_becomesSafe 161 = .ok (.iadd, 1) := dk_96 (dk_at dksX11_becomesSafe_6 19 rfl rfl)
theorem dX11_becomesSafe_162 : decode cX11_becomesSafe 162 = .ok (.aload_n 0, 1) := dk_42 (dk_at dksX11_becomesSafe_6 20 rfl rfl)
theorem dX11_becomesSafe_163 : decode cX11_becomesSafe 163 = .ok (.getfield 102, 3) := dk_180 0 102 (dk_at dksX11_becomesSafe_6 21 rfl rfl)
theorem dX11_becomesSafe_166 : decode cX11_becomesSafe 166 = .ok (.bipush 64, 2) := dk_16 64 (dk_at dksX11_becomesSafe_7 0 rfl rfl)
theorem dX11_becomesSafe_168 : decode cX11_becomesSafe 168 = .ok (.iload_n 2, 1) := dk_28 (dk_at dksX11_becomesSafe_7 2 rfl rfl)
theorem dX11_becomesSafe_169 : decode cX11_becomesSafe 169 = .ok (.imul, 1) := dk_104 (dk_at dksX11_becomesSafe_7 3 rfl rfl)
theorem dX11_becomesSafe_170 : decode cX11_becomesSafe 170 = .ok (.iload 4, 2) := dk_21 4 (dk_at dksX11_becomesSafe_7 4 rfl rfl)
theorem dX11_becomesSafe_172 : decode cX11_becomesSafe 172 = .ok (.iadd, 1) := dk_96 (dk_at dksX11_becomesSafe_7 6 rfl rfl)
theorem dX11_becomesSafe_173 : decode cX11_becomesSafe 173 = .ok (.baload, 1) := dk_51 (dk_at dksX11_becomesSafe_7 7 rfl rfl)
theorem dX11_becomesSafe_174 : decode cX11_becomesSafe 174 = .ok (.bastore, 1) := dk_84 (dk_at dksX11_becomesSafe_7 8 rfl rfl)
theorem dX11_becomesSafe_175 : decode cX11_becomesSafe 175 = .ok (.iinc 4 1, 3) := dk_132 4 1 (dk_at dksX11_becomesSafe_7 9 rfl rfl)
theorem dX11_becomesSafe_178 : decode cX11_becomesSafe 178 = .ok (.goto (-34), 3) := dk_167 255 222 (dk_at dksX11_becomesSafe_7 12 rfl rfl)
theorem dX11_becomesSafe_181 : decode cX11_becomesSafe 181 = .ok (.iinc 2 1, 3) := dk_132 2 1 (dk_at dksX11_becomesSafe_7 15 rfl rfl)
theorem dX11_becomesSafe_184 : decode cX11_becomesSafe 184 = .ok (.goto (-163), 3) := dk_167 255 93 (dk_at dksX11_becomesSafe_7 18 rfl rfl)
theorem dX11_becomesSafe_187 : decode cX11_becomesSafe 187 = .ok (.aload_n 0, 1) := dk_42 (dk_at dksX11_becomesSafe_7 21 rfl rfl)
theorem dX11_becomesSafe_188 : decode cX11_becomesSafe 188 = .ok (.dup, 1) := dk_89 (dk_at dksX11_becomesSafe_7 22 rfl rfl)
theorem dX11_becomesSafe_189 : decode cX11_becomesSafe 189 = .ok (.getfield 195, 3) := dk_180 0 195 (dk_at dksX11_becomesSafe_8 0 rfl rfl)
theorem dX11_becomesSafe_192 : decode cX11_becomesSafe 192 = .ok (.iload_n 1, 1) := dk_27 (dk_at dksX11_becomesSafe_8 3 rfl rfl)
theorem dX11_becomesSafe_193 : decode cX11_becomesSafe 193 = .ok (.isub, 1) := dk_100 (dk_at dksX11_becomesSafe_8 4 rfl rfl)
theorem dX11_becomesSafe_194 : decode cX11_becomesSafe 194 = .ok (.putfield 195, 3) := dk_181 0 195 (dk_at dksX11_becomesSafe_8 5 rfl rfl)
theorem dX11_becomesSafe_197 : decode cX11_becomesSafe 197 = .ok (.return_, 1) := dk_177 (dk_at dksX11_becomesSafe_8 8 rfl rfl)
abbrev cX11_mkdir : ByteArray := prog_12_method_32_code
def yX11_mkdir : MethodName := ⟨RX11, "mkdir", "(IJ)I"⟩
def dkwX11_mkdir_0 : List UInt8 := [42, 27, 32, 4, 182, 0, 229, 172]
abbrev dktX11_mkdir_0 : List UInt8 := dkwX11_mkdir_0 ++ []
theorem dksX11_mkdir_0 : cX11_mkdir.data.toList.drop 0 = dktX11_mkdir_0 := by decide +kernel
theorem dX11_mkdir_0 : decode cX11_mkdir 0 = .ok (.aload_n 0, 1) := dk_42 (dk_at dksX11_mkdir_0 0 rfl rfl)
theorem dX11_mkdir_1 : decode cX11_mkdir 1 = .ok (.iload_n 1, 1) := dk_27 (dk_at dksX11_mkdir_0 1 rfl rfl)
theorem dX11_mkdir_2 : decode cX11_mkdir 2 = .ok (.lload_n 2, 1) := dk_32 (dk_at dksX11_mkdir_0 2 rfl rfl)
theorem dX11_mkdir_3 : decode cX11_mkdir 3 = .ok (.iconst 1, 1) := dk_4 (dk_at dksX11_mkdir_0 3 rfl rfl)
theorem dX11_mkdir_4 : decode cX11_mkdir 4 = .ok (.invokevirtual 229, 3) := dk_182 0 229 (dk_at dksX11_mkdir_0 4 rfl rfl)
theorem dX11_mkdir_7 : decode cX11_mkdir 7 = .ok (.ireturn, 1) := dk_172 (dk_at dksX11_mkdir_0 7 rfl rfl)
abbrev cX11_sign : ByteArray := prog_12_method_33_code
def yX11_sign : MethodName := ⟨RX11, "sign", "(IJ)I"⟩
def dkwX11_sign_0 : List UInt8 := [42, 27, 32, 6, 182, 0, 229, 172]
abbrev dktX11_sign_0 : List UInt8 := dkwX11_sign_0 ++ []
theorem dksX11_sign_0 : cX11_sign.data.toList.drop 0 = dktX11_sign_0 := by decide +kernel
theorem dX11_sign_0 : decode cX11_sign 0 = .ok (.aload_n 0, 1) := dk_42 (dk_at dksX11_sign_0 0 rfl rfl)
theorem dX11_sign_1 : decode cX11_sign 1 = .ok (.iload_n 1, 1) := dk_27 (dk_at dksX11_sign_0 1 rfl rfl)
theorem dX11_sign_2 : decode cX11_sign 2 = .ok (.lload_n 2, 1) := dk_32 (dk_at dksX11_sign_0 2 rfl rfl)
theorem dX11_sign_3 : decode cX11_sign 3 = .ok (.iconst 3, 1) := dk_6 (dk_at dksX11_sign_0 3 rfl rfl)
theorem dX11_sign_4 : decode cX11_sign 4 = .ok (.invokevirtual 229, 3) := dk_182 0 229 (dk_at dksX11_sign_0 4 rfl rfl)
theorem dX11_sign_7 : decode cX11_sign 7 = .ok (.ireturn, 1) := dk_172 (dk_at dksX11_sign_0 7 rfl rfl)
abbrev cX11_link : ByteArray := prog_12_method_34_code
def yX11_link : MethodName := ⟨RX11, "link", "(IIJ)I"⟩
def dkwX11_link_7 : List UInt8 := [182, 0, 233, 172]
abbrev dktX11_link_7 : List UInt8 := dkwX11_link_7 ++ []
def dkwX11_link_6 : List UInt8 := [182, 0, 223, 54, 7, 42, 180, 0, 96, 21, 7, 33, 80, 42, 17, 0, 144, 182, 0, 226, 42, 3, 27]
abbrev dktX11_link_6 : List UInt8 := dkwX11_link_6 ++ dktX11_link_7
def dkwX11_link_5 : List UInt8 := [42, 182, 0, 219, 17, 0, 240, 96, 42, 180, 0, 133, 164, 0, 6, 16, 246, 172, 42, 5, 28, 27]
abbrev dktX11_link_5 : List UInt8 := dkwX11_link_5 ++ dktX11_link_6
def dkwX11_link_4 : List UInt8 := [54, 6, 21, 6, 153, 0, 6, 21, 6, 172, 42, 3, 28, 33, 182, 0, 162, 2, 159, 0, 6, 16, 251, 172]
abbrev dktX11_link_4 : List UInt8 := dkwX11_link_4 ++ dktX11_link_5
def dkwX11_link_3 : List UInt8 := [180, 0, 26, 21, 5, 46, 4, 160, 0, 8, 16, 249, 167, 0, 5, 16, 245, 172, 42, 28, 182, 0, 216]
abbrev dktX11_link_3 : List UInt8 := dkwX11_link_3 ++ dktX11_link_4
def dkwX11_link_2 : List UInt8 := [27, 182, 0, 233, 154, 0, 6, 16, 252, 172, 42, 180, 0, 26, 21, 5, 46, 5, 159, 0, 22, 42]
abbrev dktX11_link_2 : List UInt8 := dkwX11_link_2 ++ dktX11_link_3
def dkwX11_link_1 : List UInt8 := [182, 0, 143, 54, 5, 21, 5, 2, 159, 0, 23, 42, 180, 0, 26, 21, 5, 46, 4, 159, 0, 15, 42, 3]
abbrev dktX11_link_1 : List UInt8 := dkwX11_link_1 ++ dktX11_link_2
def dkwX11_link_0 : List UInt8 := [42, 180, 0, 7, 154, 0, 6, 16, 254, 172, 33, 184, 0, 209, 154, 0, 6, 16, 253, 172, 42, 3, 27]
abbrev dktX11_link_0 : List UInt8 := dkwX11_link_0 ++ dktX11_link_1
theorem dksX11_link_0 : cX11_link.data.toList.drop 0 = dktX11_link_0 := by decide +kernel
theorem dksX11_link_1 : cX11_link.data.toList.drop 23 = dktX11_link_1 := dk_seg dksX11_link_0 23 rfl rfl
theorem dksX11_link_2 : cX11_link.data.toList.drop 47 = dktX11_link_2 := dk_seg dksX11_link_1 24 rfl rfl
theorem dksX11_link_3 : cX11_link.data.toList.drop 69 = dktX11_link_3 := dk_seg dksX11_link_2 22 rfl rfl
theorem dksX11_link_4 : cX11_link.data.toList.drop 92 = dktX11_link_4 := dk_seg dksX11_link_3 23 rfl rfl
theorem dksX11_link_5 : cX11_link.data.toList.drop 116 = dktX11_link_5 := dk_seg dksX11_link_4 24 rfl rfl
theorem dksX11_link_6 : cX11_link.data.toList.drop 138 = dktX11_link_6 := dk_seg dksX11_link_5 22 rfl rfl
theorem dksX11_link_7 : cX11_link.data.toList.drop 161 = dktX11_link_7 := dk_seg dksX11_link_6 23 rfl rfl
theorem dX11_link_0 : decode cX11_link 0 = .ok (.aload_n 0, 1) := dk_42 (dk_at dksX11_link_0 0 rfl rfl)
theorem dX11_link_1 : decode cX11_link 1 = .ok (.getfield 7, 3) := dk_180 0 7 (dk_at dksX11_link_0 1 rfl rfl)
theorem dX11_link_4 : decode cX11_link 4 = .ok (.ifCond .ne 6, 3) := dk_154 0 6 (dk_at dksX11_link_0 4 rfl rfl)
theorem dX11_link_7 : decode cX11_link 7 = .ok (.bipush (-2), 2) := dk_16 254 (dk_at dksX11_link_0 7 rfl rfl)
theorem dX11_link_9 : decode cX11_link 9 = .ok (.ireturn, 1) := dk_172 (dk_at dksX11_link_0 9 rfl rfl)
theorem dX11_link_10 : decode cX11_link 10 = .ok (.lload_n 3, 1) := dk_33 (dk_at dksX11_link_0 10 rfl rfl)
theorem dX11_link_11 : decode cX11_link 11 = .ok (.invokestatic 209, 3) := dk_184 0 209 (dk_at dksX11_link_0 11 rfl rfl)
theorem dX11_link_14 : decode cX11_link 14 = .ok (.ifCond .ne 6, 3) := dk_154 0 6 (dk_at dksX11_link_0 14 rfl rfl)
theorem dX11_link_17 : decode cX11_link 17 = .ok (.bipush (-3), 2) := dk_16 253 (dk_at dksX11_link_0 17 rfl rfl)
theorem dX11_link_19 : decode cX11_link 19 = .ok (.ireturn, 1) := dk_172 (dk_at dksX11_link_0 19 rfl rfl)
theorem dX11_link_20 : decode cX11_link 20 = .ok (.aload_n 0, 1) := dk_42 (dk_at dksX11_link_0 20 rfl rfl)
theorem dX11_link_21 : decode cX11_link 21 = .ok (.iconst 0, 1) := dk_3 (dk_at dksX11_link_0 21 rfl rfl)
theorem dX11_link_22 : decode cX11_link 22 = .ok (.iload_n 1, 1) := dk_27 (dk_at dksX11_link_0 22 rfl rfl)
theorem dX11_link_23 : decode cX11_link 23 = .ok (.invokevirtual 143, 3) := dk_182 0 143 (dk_at dksX11_link_1 0 rfl rfl)
theorem dX11_link_26 : decode cX11_link 26 = .ok (.istore 5, 2) := dk_54 5 (dk_at dksX11_link_1 3 rfl rfl)
theorem dX11_link_28 : decode cX11_link 28 = .ok (.iload 5, 2) := dk_21 5 (dk_at dksX11_link_1 5 rfl rfl)
theorem dX11_link_30 : decode cX11_link 30 = .ok (.iconst (-1), 1) := dk_2 (dk_at dksX11_link_1 7 rfl rfl)
theorem dX11_link_31 : decode cX11_link 31 = .ok (.if_icmp .eq 23, 3) := dk_159 0 23 (dk_at dksX11_link_1 8 rfl rfl)
theorem dX11_link_34 : decode cX11_link 34 = .ok (.aload_n 0, 1) := dk_42 (dk_at dksX11_link_1 11 rfl rfl)
theorem dX11_link_35 : decode cX11_link 35 = .ok (.getfield 26, 3) := dk_180 0 26 (dk_at dksX11_link_1 12 rfl rfl)
theorem dX11_link_38 : decode cX11_link 38 = .ok (.iload 5, 2) := dk_21 5 (dk_at dksX11_link_1 15 rfl rfl)
theorem dX11_link_40 : decode cX11_link 40 = .ok (.iaload, 1) := dk_46 (dk_at dksX11_link_1 17 rfl rfl)
theorem dX11_link_41 : decode cX11_link 41 = .ok (.iconst 1, 1) := dk_4 (dk_at dksX11_link_1 18 rfl rfl)
theorem dX11_link_42 : decode cX11_link 42 = .ok (.if_icmp .eq 15, 3) := dk_159 0 15 (dk_at dksX11_link_1 19 rfl rfl)
theorem dX11_link_45 : decode cX11_link 45 = .ok (.aload_n 0, 1) := dk_42 (dk_at dksX11_link_1 22 rfl rfl)
theorem dX11_link_46 : decode cX11_link 46 = .ok (.iconst 0, 1) := dk_3 (dk_at dksX11_link_1 23 rfl rfl)
theorem dX11_link_47 : decode cX11_link 47 = .ok (.iload_n 1, 1) := dk_27 (dk_at dksX11_link_2 0 rfl rfl)
theorem dX11_link_48 : decode cX11_link 48 = .ok (.invokevirtual 233, 3) := dk_182 0 233 (dk_at dksX11_link_2 1 rfl rfl)
theorem dX11_link_51 : decode cX11_link 51 = .ok (.ifCond .ne 6, 3) := dk_154 0 6 (dk_at dksX11_link_2 4 rfl rfl)
theorem dX11_link_54 : decode cX11_link 54 = .ok (.bipush (-4), 2) := dk_16 252 (dk_at dksX11_link_2 7 rfl rfl)
theorem dX11_link_56 : decode cX11_link 56 = .ok (.ireturn, 1) := dk_172 (dk_at dksX11_link_2 9 rfl rfl)
theorem dX11_link_57 : decode cX11_link 57 = .ok (.aload_n 0, 1) := dk_42 (dk_at dksX11_link_2 10 rfl rfl)
theorem dX11_link_58 : decode cX11_link 58 = .ok (.getfield 26, 3) := dk_180 0 26 (dk_at dksX11_link_2 11 rfl rfl)
theorem dX11_link_61 : decode cX11_link 61 = .ok (.iload 5, 2) := dk_21 5 (dk_at dksX11_link_2 14 rfl rfl)
theorem dX11_link_63 : decode cX11_link 63 = .ok (.iaload, 1) := dk_46 (dk_at dksX11_link_2 16 rfl rfl)
theorem dX11_link_64 : decode cX11_link 64 = .ok (.iconst 2, 1) := dk_5 (dk_at dksX11_link_2 17 rfl rfl)
theorem dX11_link_65 : decode cX11_link 65 = .ok (.if_icmp .eq 22, 3) := dk_159 0 22 (dk_at dksX11_link_2 18 rfl rfl)
theorem dX11_link_68 : decode cX11_link 68 = .ok (.aload_n 0, 1) := dk_42 (dk_at dksX11_link_2 21 rfl rfl)
theorem dX11_link_69 : decode cX11_link 69 = .ok (.getfield 26, 3) := dk_180 0 26 (dk_at dksX11_link_3 0 rfl rfl)
theorem dX11_link_72 : decode cX11_link 72 = .ok (.iload 5, 2) := dk_21 5 (dk_at dksX11_link_3 3 rfl rfl)
theorem dX11_link_74 : decode cX11_link 74 = .ok (.iaload, 1) := dk_46 (dk_at dksX11_link_3 5 rfl rfl)
theorem dX11_link_75 : decode cX11_link 75 = .ok (.iconst 1, 1) := dk_4 (dk_at dksX11_link_3 6 rfl rfl)
theorem dX11_link_76 : decode cX11_link 76 = .ok (.if_icmp .ne 8, 3) := dk_160 0 8 (dk_at dksX11_link_3 7 rfl rfl)
theorem dX11_link_79 : decode cX11_link 79 = .ok (.bipush (-7), 2) := dk_16 249 (dk_at dksX11_link_3 10 rfl rfl)
theorem dX11_link_81 : decode cX11_link 81 = .ok (.goto 5, 3) := dk_167 0 5 (dk_at dksX11_link_3 12 rfl rfl)
theorem dX11_link_84 : decode cX11_link 84 = .ok (.bipush (-11), 2) := dk_16 245 (dk_at dksX11_link_3 15 rfl rfl)
theorem dX11_link_86 : decode cX11_link 86 = .ok (.ireturn, 1) := dk_172 (dk_at dksX11_link_3 17 rfl rfl)
theorem dX11_link_87 : decode cX11_link 87 = .ok (.aload_n 0, 1) := dk_42 (dk_at dksX11_link_3 18 rfl rfl)
theorem dX11_link_88 : decode cX11_link 88 = .ok (.iload_n 2, 1) := dk_28 (dk_at dksX11_link_3 19 rfl rfl)
theorem dX11_link_89 : decode cX11_link 89 = .ok (.invokevirtual 216, 3) := dk_182 0 216 (dk_at dksX11_link_3 20 rfl rfl)
theorem dX11_link_92 : decode cX11_link 92 = .ok (.istore 6, 2) := dk_54 6 (dk_at dksX11_link_4 0 rfl rfl)
theorem dX11_link_94 : decode cX11_link 94 = .ok (.iload 6, 2) := dk_21 6 (dk_at dksX11_link_4 2 rfl rfl)
theorem dX11_link_96 : decode cX11_link 96 = .ok (.ifCond .eq 6, 3) := dk_153 0 6 (dk_at dksX11_link_4 4 rfl rfl)
theorem dX11_link_99 : decode cX11_link 99 = .ok (.iload 6, 2) := dk_21 6 (dk_at dksX11_link_4 7 rfl rfl)
theorem dX11_link_101 : decode cX11_link 101 = .ok (.ireturn, 1) := dk_172 (dk_at dksX11_link_4 9 rfl rfl)
theorem dX11_link_102 : decode cX11_link 102 = .ok (.aload_n 0, 1) := dk_42 (dk_at dksX11_link_4 10 rfl rfl)
theorem dX11_link_103 : decode cX11_link 103 = .ok (.iconst 0, 1) := dk_3 (dk_at dksX11_link_4 11 rfl rfl)
theorem dX11_link_104 : decode cX11_link 104 = .ok (.iload_n 2, 1) := dk_28 (dk_at dksX11_link_4 12 rfl rfl)
theorem dX11_link_105 : decode cX11_link 105 = .ok (.lload_n 3, 1) := dk_33 (dk_at dksX11_link_4 13 rfl rfl)
theorem dX11_link_106 : decode cX11_link 106 = .ok (.invokevirtual 162, 3) := dk_182 0 162 (dk_at dksX11_link_4 14 rfl rfl)
theorem dX11_link_109 : decode cX11_link 109 = .ok (.iconst (-1), 1) := dk_2 (dk_at dksX11_link_4 17 rfl rfl)
theorem dX11_link_110 : decode cX11_link 110 = .ok (.if_icmp .eq 6, 3) := dk_159 0 6 (dk_at dksX11_link_4 18 rfl rfl)
theorem dX11_link_113 : decode cX11_link 113 = .ok (.bipush (-5), 2) := dk_16 251 (dk_at dksX11_link_4 21 rfl rfl)
theorem dX11_link_115 : decode cX11_link 115 = .ok (.ireturn, 1) := dk_172 (dk_at dksX11_link_4 23 rfl rfl)
theorem dX11_link_116 : decode cX11_link 116 = .ok (.aload_n 0, 1) := dk_42 (dk_at dksX11_link_5 0 rfl rfl)
theorem dX11_link_117 : decode cX11_link 117 = .ok (.invokevirtual 219, 3) := dk_182 0 219 (dk_at dksX11_link_5 1 rfl rfl)
theorem dX11_link_120 : decode cX11_link 120 = .ok (.sipush 240, 3) := dk_17 0 240 (dk_at dksX11_link_5 4 rfl rfl)
theorem dX11_link_123 : decode cX11_link 123 = .ok (.iadd, 1) := dk_96 (dk_at dksX11_link_5 7 rfl rfl)
theorem dX11_link_124 : decode cX11_link 124 = .ok (.aload_n 0, 1) := dk_42 (dk_at dksX11_link_5 8 rfl rfl)
theorem dX11_link_125 : decode cX11_link 125 = .ok (.getfield 133, 3) := dk_180 0 133 (dk_at dksX11_link_5 9 rfl rfl)
theorem dX11_link_128 : decode cX11_link 128 = .ok (.if_icmp .le 6, 3) := dk_164 0 6 (dk_at dksX11_link_5 12 rfl rfl)
theorem dX11_link_131 : decode cX11_link 131 = .ok (.bipush (-10), 2) := dk_16 246 (dk_at dksX11_link_5 15 rfl rfl)
theorem dX11_link_133 : decode cX11_link 133 = .ok (.ireturn, 1) := dk_172 (dk_at dksX11_link_5 17 rfl rfl)
theorem dX11_link_134 : decode cX11_link 134 = .ok (.aload_n 0, 1) := dk_42 (dk_at dksX11_link_5 18 rfl rfl)
theorem dX11_link_135 : decode cX11_link 135 = .ok (.iconst 2, 1) := dk_5 (dk_at dksX11_link_5 19 rfl rfl)
theorem dX11_link_136 : decode cX11_link 136 = .ok (.iload_n 2, 1) := dk_28 (dk_at dksX11_link_5 20 rfl rfl)
theorem dX11_link_137 : decode cX11_link 137 = .ok (.iload_n 1, 1) := dk_27 (dk_at dksX11_link_5 21 rfl rfl)
theorem dX11_link_138 : decode cX11_link 138 = .ok (.invokevirtual 223, 3) := dk_182 0 223 (dk_at dksX11_link_6 0 rfl rfl)
theorem dX11_link_141 : decode cX11_link 141 = .ok (.istore 7, 2) := dk_54 7 (dk_at dksX11_link_6 3 rfl rfl)
theorem dX11_link_143 : decode cX11_link 143 = .ok (.aload_n 0, 1) := dk_42 (dk_at dksX11_link_6 5 rfl rfl)
theorem dX11_link_144 : decode cX11_link 144 = .ok (.getfield 96, 3) := dk_180 0 96 (dk_at dksX11_link_6 6 rfl rfl)
theorem dX11_link_147 : decode cX11_link 147 = .ok (.iload 7, 2) := dk_21 7 (dk_at dksX11_link_6 9 rfl rfl)
theorem dX11_link_149 : decode cX11_link 149 = .ok (.lload_n 3, 1) := dk_33 (dk_at dksX11_link_6 11 rfl rfl)
theorem dX11_link_150 : decode cX11_link 150 = .ok (.lastore, 1) := dk_80 (dk_at dksX11_link_6 12 rfl rfl)
theorem dX11_link_151 : decode cX11_link 151 = .ok (.aload_n 0, 1) := dk_42 (dk_at dksX11_link_6 13 rfl rfl)
theorem dX11_link_152 : decode cX11_link 152 = .ok (.sipush 144, 3) := dk_17 0 144 (dk_at dksX11_link_6 14 rfl rfl)
theorem dX11_link_155 : decode cX11_link 155 = .ok (.invokevirtual 226, 3) := dk_182 0 226 (dk_at dksX11_link_6 17 rfl rfl)
theorem dX11_link_158 : decode cX11_link 158 = .ok (.aload_n 0, 1) := dk_42 (dk_at dksX11_link_6 20 rfl rfl)
theorem dX11_link_159 : decode cX11_link 159 = .ok (.iconst 0, 1) := dk_3 (dk_at dksX11_link_6 21 rfl rfl)
theorem dX11_link_160 : decode cX11_link 160 = .ok (.iload_n 1, 1) := dk_27 (dk_at dksX11_link_6 22 rfl rfl)
theorem dX11_link_161 : decode cX11_link 161 = .ok (.invokevirtual 233, 3) := dk_182 0 233 (dk_at dksX11_link_7 0 rfl rfl)
theorem dX11_link_164 : decode cX11_link 164 = .ok (.ireturn, 1) := dk_172 (dk_at dksX11_link_7 3 rfl rfl)
abbrev cX11_links : ByteArray := prog_12_method_12_code
def yX11_links : MethodName := ⟨RX11, "links", "(II)I"⟩
def dkwX11_links_2 : List UInt8 := [132, 4, 1, 167, 255, 217, 29, 172]
abbrev dktX11_links_2 : List UInt8 := dkwX11_links_2 ++ []
def dkwX11_links_1 : List UInt8 := [162, 0, 28, 29, 42, 180, 0, 42, 21, 4, 46, 28, 160, 0, 7, 4, 167, 0, 4, 3, 96, 62]
abbrev dktX11_links_1 : List UInt8 := dkwX11_links_1 ++ dktX11_links_2
def dkwX11_links_0 : List UInt8 := [3, 62, 17, 2, 188, 27, 104, 54, 4, 21, 4, 17, 2, 188, 27, 104, 42, 180, 0, 32, 27, 46, 96]
abbrev dktX11_links_0 : List UInt8 := dkwX11_links_0 ++ dktX11_links_1
theorem dksX11_links_0 : cX11_links.data.toList.drop 0 = dktX11_links_0 := by decide +kernel
theorem dksX11_links_1 : cX11_links.data.toList.drop 23 = dktX11_links_1 := dk_seg dksX11_links_0 23 rfl rfl
theorem dksX11_links_2 : cX11_links.data.toList.drop 45 = dktX11_links_2 := dk_seg dksX11_links_1 22 rfl rfl
theorem dX11_links_0 : decode cX11_links 0 = .ok (.iconst 0, 1) := dk_3 (dk_at dksX11_links_0 0 rfl rfl)
theorem dX11_links_1 : decode cX11_links 1 = .ok (.istore_n 3, 1) := dk_62 (dk_at dksX11_links_0 1 rfl rfl)
theorem dX11_links_2 : decode cX11_links 2 = .ok (.sipush 700, 3) := dk_17 2 188 (dk_at dksX11_links_0 2 rfl rfl)
theorem dX11_links_5 : decode cX11_links 5 = .ok (.iload_n 1, 1) := dk_27 (dk_at dksX11_links_0 5 rfl rfl)
theorem dX11_links_6 : decode cX11_links 6 = .ok (.imul, 1) := dk_104 (dk_at dksX11_links_0 6 rfl rfl)
theorem dX11_links_7 : decode cX11_links 7 = .ok (.istore 4, 2) := dk_54 4 (dk_at dksX11_links_0 7 rfl rfl)
theorem dX11_links_9 : decode cX11_links 9 = .ok (.iload 4, 2) := dk_21 4 (dk_at dksX11_links_0 9 rfl rfl)
theorem dX11_links_11 : decode cX11_links 11 = .ok (.sipush 700, 3) := dk_17 2 188 (dk_at dksX11_links_0 11 rfl rfl)
theorem dX11_links_14 : decode cX11_links 14 = .ok (.iload_n 1, 1) := dk_27 (dk_at dksX11_links_0 14 rfl rfl)
theorem dX11_links_15 : decode cX11_links 15 = .ok (.imul, 1) := dk_104 (dk_at dksX11_links_0 15 rfl rfl)
theorem dX11_links_16 : decode cX11_links 16 = .ok (.aload_n 0, 1) := dk_42 (dk_at dksX11_links_0 16 rfl rfl)
theorem dX11_links_17 : decode cX11_links 17 = .ok (.getfield 32, 3) := dk_180 0 32 (dk_at dksX11_links_0 17 rfl rfl)
theorem dX11_links_20 : decode cX11_links 20 = .ok (.iload_n 1, 1) := dk_27 (dk_at dksX11_links_0 20 rfl rfl)
theorem dX11_links_21 : decode cX11_links 21 = .ok (.iaload, 1) := dk_46 (dk_at dksX11_links_0 21 rfl rfl)
theorem dX11_links_22 : decode cX11_links 22 = .ok (.iadd, 1) := dk_96 (dk_at dksX11_links_0 22 rfl rfl)
theorem dX11_links_23 : decode cX11_links 23 = .ok (.if_icmp .ge 28, 3) := dk_162 0 28 (dk_at dksX11_links_1 0 rfl rfl)
theorem dX11_links_26 : decode cX11_links 26 = .ok (.iload_n 3, 1) := dk_29 (dk_at dksX11_links_1 3 rfl rfl)
theorem dX11_links_27 : decode cX11_links 27 = .ok (.aload_n 0, 1) := dk_42 (dk_at dksX11_links_1 4 rfl rfl)
theorem dX11_links_28 : decode cX11_links 28 = .ok (.getfield 42, 3) := dk_180 0 42 (dk_at dksX11_links_1 5 rfl rfl)
theorem dX11_links_31 : decode cX11_links 31 = .ok (.iload 4, 2) := dk_21 4 (dk_at dksX11_links_1 8 rfl rfl)
theorem dX11_links_33 : decode cX11_links 33 = .ok (.iaload, 1) := dk_46 (dk_at dksX11_links_1 10 rfl rfl)
theorem dX11_links_34 : decode cX11_links 34 = .ok (.iload_n 2, 1) := dk_28 (dk_at dksX11_links_1 11 rfl rfl)
theorem dX11_links_35 : decode cX11_links 35 = .ok (.if_icmp .ne 7, 3) := dk_160 0 7 (dk_at dksX11_links_1 12 rfl rfl)
theorem dX11_links_38 : decode cX11_links 38 = .ok (.iconst 1, 1) := dk_4 (dk_at dksX11_links_1 15 rfl rfl)
theorem dX11_links_39 : decode cX11_links 39 = .ok (.goto 4, 3) := dk_167 0 4 (dk_at dksX11_links_1 16 rfl rfl)
theorem dX11_links_42 : decode cX11_links 42 = .ok (.iconst 0, 1) := dk_3 (dk_at dksX11_links_1 19 rfl rfl)
theorem dX11_links_43 : decode cX11_links 43 = .ok (.iadd, 1) := dk_96 (dk_at dksX11_links_1 20 rfl rfl)
theorem dX11_links_44 : decode cX11_links 44 = .ok (.istore_n 3, 1) := dk_62 (dk_at dksX11_links_1 21 rfl rfl)
theorem dX11_links_45 : decode cX11_links 45 = .ok (.iinc 4 1, 3) := dk_132 4 1 (dk_at dksX11_links_2 0 rfl rfl)
theorem dX11_links_48 : decode cX11_links 48 = .ok (.goto (-39), 3) := dk_167 255 217 (dk_at dksX11_links_2 3 rfl rfl)
theorem dX11_links_51 : decode cX11_links 51 = .ok (.iload_n 3, 1) := dk_29 (dk_at dksX11_links_2 6 rfl rfl)
theorem dX11_links_52 : decode cX11_links 52 = .ok (.ireturn, 1) := dk_172 (dk_at dksX11_links_2 7 rfl rfl)
abbrev cX11_unlink : ByteArray := prog_12_method_36_code
def yX11_unlink : MethodName := ⟨RX11, "unlink", "(IJ)I"⟩
def dkwX11_unlink_6 : List UInt8 := [182, 0, 226, 21, 7, 172]
abbrev dktX11_unlink_6 : List UInt8 := dkwX11_unlink_6 ++ []
def dkwX11_unlink_5 : List UInt8 := [154, 0, 16, 42, 21, 6, 182, 0, 236, 154, 0, 7, 4, 167, 0, 4, 3, 84, 42, 17, 0, 144]
abbrev dktX11_unlink_5 : List UInt8 := dkwX11_unlink_5 ++ dktX11_unlink_6
def dkwX11_unlink_4 : List UInt8 := [27, 3, 182, 0, 223, 54, 8, 42, 180, 0, 96, 21, 8, 32, 80, 42, 180, 0, 92, 21, 8, 21, 7]
abbrev dktX11_unlink_4 : List UInt8 := dkwX11_unlink_4 ++ dktX11_unlink_5
def dkwX11_unlink_3 : List UInt8 := [182, 0, 143, 46, 4, 160, 0, 6, 16, 249, 172, 42, 3, 21, 6, 182, 0, 233, 4, 100, 54, 7, 42, 6]
abbrev dktX11_unlink_3 : List UInt8 := dkwX11_unlink_3 ++ dktX11_unlink_4
def dkwX11_unlink_2 : List UInt8 := [2, 160, 0, 6, 16, 252, 172, 42, 180, 0, 42, 21, 5, 46, 54, 6, 42, 180, 0, 26, 42, 3, 21, 6]
abbrev dktX11_unlink_2 : List UInt8 := dkwX11_unlink_2 ++ dktX11_unlink_3
def dkwX11_unlink_1 : List UInt8 := [182, 0, 216, 54, 4, 21, 4, 153, 0, 6, 21, 4, 172, 42, 3, 27, 32, 182, 0, 162, 54, 5, 21, 5]
abbrev dktX11_unlink_1 : List UInt8 := dkwX11_unlink_1 ++ dktX11_unlink_2
def dkwX11_unlink_0 : List UInt8 := [42, 180, 0, 7, 154, 0, 6, 16, 254, 172, 32, 184, 0, 209, 154, 0, 8, 16, 253, 167, 0, 8, 42, 27]
abbrev dktX11_unlink_0 : List UInt8 := dkwX11_unlink_0 ++ dktX11_unlink_1
theorem dksX11_unlink_0 : cX11_unlink.data.toList.drop 0 = dktX11_unlink_0 := by decide +kernel
theorem dksX11_unlink_1 : cX11_unlink.data.toList.drop 24 = dktX11_unlink_1 := dk_seg dksX11_unlink_0 24 rfl rfl
theorem dksX11_unlink_2 : cX11_unlink.data.toList.drop 48 = dktX11_unlink_2 := dk_seg dksX11_unlink_1 24 rfl rfl
theorem dksX11_unlink_3 : cX11_unlink.data.toList.drop 72 = dktX11_unlink_3 := dk_seg dksX11_unlink_2 24 rfl rfl
theorem dksX11_unlink_4 : cX11_unlink.data.toList.drop 96 = dktX11_unlink_4 := dk_seg dksX11_unlink_3 24 rfl rfl
theorem dksX11_unlink_5 : cX11_unlink.data.toList.drop 119 = dktX11_unlink_5 := dk_seg dksX11_unlink_4 23 rfl rfl
theorem dksX11_unlink_6 : cX11_unlink.data.toList.drop 141 = dktX11_unlink_6 := dk_seg dksX11_unlink_5 22 rfl rfl
theorem dX11_unlink_0 : decode cX11_unlink 0 = .ok (.aload_n 0, 1) := dk_42 (dk_at dksX11_unlink_0 0 rfl rfl)
theorem dX11_unlink_1 : decode cX11_unlink 1 = .ok (.getfield 7, 3) := dk_180 0 7 (dk_at dksX11_unlink_0 1 rfl rfl)
theorem dX11_unlink_4 : decode cX11_unlink 4 = .ok (.ifCond .ne 6, 3) := dk_154 0 6 (dk_at dksX11_unlink_0 4 rfl rfl)
theorem dX11_unlink_7 : decode cX11_unlink 7 = .ok (.bipush (-2), 2) := dk_16 254 (dk_at dksX11_unlink_0 7 rfl rfl)
theorem dX11_unlink_9 : decode cX11_unlink 9 = .ok (.ireturn, 1) := dk_172 (dk_at dksX11_unlink_0 9 rfl rfl)
theorem dX11_unlink_10 : decode cX11_unlink 10 = .ok (.lload_n 2, 1) := dk_32 (dk_at dksX11_unlink_0 10 rfl rfl)
theorem dX11_unlink_11 : decode cX11_unlink 11 = .ok (.invokestatic 209, 3) := dk_184 0 209 (dk_at dksX11_unlink_0 11 rfl rfl)
theorem dX11_unlink_14 : decode cX11_unlink 14 = .ok (.ifCond .ne 8, 3) := dk_154 0 8 (dk_at dksX11_unlink_0 14 rfl rfl)
theorem dX11_unlink_17 : decode cX11_unlink 17 = .ok (.bipush (-3), 2) := dk_16 253 (dk_at dksX11_unlink_0 17 rfl rfl)
theorem dX11_unlink_19 : decode cX11_unlink 19 = .ok (.goto 8, 3) := dk_167 0 8 (dk_at dksX11_unlink_0 19 rfl rfl)
theorem dX11_unlink_22 : decode cX11_unlink 22 = .ok (.aload_n 0, 1) := dk_42 (dk_at dksX11_unlink_0 22 rfl rfl)
theorem dX11_unlink_23 : decode cX11_unlink 23 = .ok (.iload_n 1, 1) := dk_27 (dk_at dksX11_unlink_0 23 rfl rfl)
theorem dX11_unlink_24 : decode cX11_unlink 24 = .ok (.invokevirtual 216, 3) := dk_182 0 216 (dk_at dksX11_unlink_1 0 rfl rfl)
theorem dX11_unlink_27 : decode cX11_unlink 27 = .ok (.istore 4, 2) := dk_54 4 (dk_at dksX11_unlink_1 3 rfl rfl)
theorem dX11_unlink_29 : decode cX11_unlink 29 = .ok (.iload 4, 2) := dk_21 4 (dk_at dksX11_unlink_1 5 rfl rfl)
theorem dX11_unlink_31 : decode cX11_unlink 31 = .ok (.ifCond .eq 6, 3) := dk_153 0 6 (dk_at dksX11_unlink_1 7 rfl rfl)
theorem dX11_unlink_34 : decode cX11_unlink 34 = .ok (.iload 4, 2) := dk_21 4 (dk_at dksX11_unlink_1 10 rfl rfl)
theorem dX11_unlink_36 : decode cX11_unlink 36 = .ok (.ireturn, 1) := dk_172 (dk_at dksX11_unlink_1 12 rfl rfl)
theorem dX11_unlink_37 : decode cX11_unlink 37 = .ok (.aload_n 0, 1) := dk_42 (dk_at dksX11_unlink_1 13 rfl rfl)
theorem dX11_unlink_38 : decode cX11_unlink 38 = .ok (.iconst 0, 1) := dk_3 (dk_at dksX11_unlink_1 14 rfl rfl)
theorem dX11_unlink_39 : decode cX11_unlink 39 = .ok (.iload_n 1, 1) := dk_27 (dk_at dksX11_unlink_1 15 rfl rfl)
theorem dX11_unlink_40 : decode cX11_unlink 40 = .ok (.lload_n 2, 1) := dk_32 (dk_at dksX11_unlink_1 16 rfl rfl)
theorem dX11_unlink_41 : decode cX11_unlink 41 = .ok (.invokevirtual 162, 3) := dk_182 0 162 (dk_at dksX11_unlink_1 17 rfl rfl)
theorem dX11_unlink_44 : decode cX11_unlink 44 = .ok (.istore 5, 2) := dk_54 5 (dk_at dksX11_unlink_1 20 rfl rfl)
theorem dX11_unlink_46 : decode cX11_unlink 46 = .ok (.iload 5, 2) := dk_21 5 (dk_at dksX11_unlink_1 22 rfl rfl)
theorem dX11_unlink_48 : decode cX11_unlink 48 = .ok (.iconst (-1), 1) := dk_2 (dk_at dksX11_unlink_2 0 rfl rfl)
theorem dX11_unlink_49 : decode cX11_unlink 49 = .ok (.if_icmp .ne 6, 3) := dk_160 0 6 (dk_at dksX11_unlink_2 1 rfl rfl)
theorem dX11_unlink_52 : decode cX11_unlink 52 = .ok (.bipush (-4), 2) := dk_16 252 (dk_at dksX11_unlink_2 4 rfl rfl)
theorem dX11_unlink_54 : decode cX11_unlink 54 = .ok (.ireturn, 1) := dk_172 (dk_at dksX11_unlink_2 6 rfl rfl)
theorem dX11_unlink_55 : decode cX11_unlink 55 = .ok (.aload_n 0, 1) := dk_42 (dk_at dksX11_unlink_2 7 rfl rfl)
theorem dX11_unlink_56 : decode cX11_unlink 56 = .ok (.getfield 42, 3) := dk_180 0 42 (dk_at dksX11_unlink_2 8 rfl rfl)
theorem dX11_unlink_59 : decode cX11_unlink 59 = .ok (.iload 5, 2) := dk_21 5 (dk_at dksX11_unlink_2 11 rfl rfl)
theorem dX11_unlink_61 : decode cX11_unlink 61 = .ok (.iaload, 1) := dk_46 (dk_at dksX11_unlink_2 13 rfl rfl)
theorem dX11_unlink_62 : decode cX11_unlink 62 = .ok (.istore 6, 2) := dk_54 6 (dk_at dksX11_unlink_2 14 rfl rfl)
theorem dX11_unlink_64 : decode cX11_unlink 64 = .ok (.aload_n 0, 1) := dk_42 (dk_at dksX11_unlink_2 16 rfl rfl)
theorem dX11_unlink_65 : decode cX11_unlink 65 = .ok (.getfield 26, 3) := dk_180 0 26 (dk_at dksX11_unlink_2 17 rfl rfl)
theorem dX11_unlink_68 : decode cX11_unlink 68 = .ok (.aload_n 0, 1) := dk_42 (dk_at dksX11_unlink_2 20 rfl rfl)
theorem dX11_unlink_69 : decode cX11_unlink 69 = .ok (.iconst 0, 1) := dk_3 (dk_at dksX11_unlink_2 21 rfl rfl)
theorem dX11_unlink_70 : decode cX11_unlink 70 = .ok (.iload 6, 2) := dk_21 6 (dk_at dksX11_unlink_2 22 rfl rfl)
theorem dX11_unlink_72 : decode cX11_unlink 72 = .ok (.invokevirtual 143, 3) := dk_182 0 143 (dk_at dksX11_unlink_3 0 rfl rfl)
theorem dX11_unlink_75 : decode cX11_unlink 75 = .ok (.iaload, 1) := dk_46 (dk_at dksX11_unlink_3 3 rfl rfl)
theorem dX11_unlink_76 : decode cX11_unlink 76 = .ok (.iconst 1, 1) := dk_4 (dk_at dksX11_unlink_3 4 rfl rfl)
theorem dX11_unlink_77 : decode cX11_unlink 77 = .ok (.if_icmp .ne 6, 3) := dk_160 0 6 (dk_at dksX11_unlink_3 5 rfl rfl)
theorem dX11_unlink_80 : decode cX11_unlink 80 = .ok (.bipush (-7), 2) := dk_16 249 (dk_at dksX11_unlink_3 8 rfl rfl)
theorem dX11_unlink_82 : decode cX11_unlink 82 = .ok (.ireturn, 1) := dk_172 (dk_at dksX11_unlink_3 10 rfl rfl)
theorem dX11_unlink_83 : decode cX11_unlink 83 = .ok (.aload_n 0, 1) := dk_42 (dk_at dksX11_unlink_3 11 rfl rfl)
theorem dX11_unlink_84 : decode cX11_unlink 84 = .ok (.iconst 0, 1) := dk_3 (dk_at dksX11_unlink_3 12 rfl rfl)
theorem dX11_unlink_85 : decode cX11_unlink 85 = .ok (.iload 6, 2) := dk_21 6 (dk_at dksX11_unlink_3 13 rfl rfl)
theorem dX11_unlink_87 : decode cX11_unlink 87 = .ok (.invokevirtual 233, 3) := dk_182 0 233 (dk_at dksX11_unlink_3 15 rfl rfl)
theorem dX11_unlink_90 : decode cX11_unlink 90 = .ok (.iconst 1, 1) := dk_4 (dk_at dksX11_unlink_3 18 rfl rfl)
theorem dX11_unlink_91 : decode cX11_unlink 91 = .ok (.isub, 1) := dk_100 (dk_at dksX11_unlink_3 19 rfl rfl)
theorem dX11_unlink_92 : decode cX11_unlink 92 = .ok (.istore 7, 2) := dk_54 7 (dk_at dksX11_unlink_3 20 rfl rfl)
theorem dX11_unlink_94 : decode cX11_unlink 94 = .ok (.aload_n 0, 1) := dk_42 (dk_at dksX11_unlink_3 22 rfl rfl)
theorem dX11_unlink_95 : decode cX11_unlink 95 = .ok (.iconst 3, 1) := dk_6 (dk_at dksX11_unlink_3 23 rfl rfl)
theorem dX11_unlink_96 : decode cX11_unlink 96 = .ok (.iload_n 1, 1) := dk_27 (dk_at dksX11_unlink_4 0 rfl rfl)
theorem dX11_unlink_97 : decode cX11_unlink 97 = .ok (.iconst 0, 1) := dk_3 (dk_at dksX11_unlink_4 1 rfl rfl)
theorem dX11_unlink_98 : decode cX11_unlink 98 = .ok (.invokevirtual 223, 3) := dk_182 0 223 (dk_at dksX11_unlink_4 2 rfl rfl)
theorem dX11_unlink_101 : decode cX11_unlink 101 = .ok (.istore 8, 2) := dk_54 8 (dk_at dksX11_unlink_4 5 rfl rfl)
theorem dX11_unlink_103 : decode cX11_unlink 103 = .ok (.aload_n 0, 1) := dk_42 (dk_at dksX11_unlink_4 7 rfl rfl)
theorem dX11_unlink_104 : decode cX11_unlink 104 = .ok (.getfield 96, 3) := dk_180 0 96 (dk_at dksX11_unlink_4 8 rfl rfl)
theorem dX11_unlink_107 : decode cX11_unlink 107 = .ok (.iload 8, 2) := dk_21 8 (dk_at dksX11_unlink_4 11 rfl rfl)
theorem dX11_unlink_109 : decode cX11_unlink 109 = .ok (.lload_n 2, 1) := dk_32 (dk_at dksX11_unlink_4 13 rfl rfl)
theorem dX11_unlink_110 : decode cX11_unlink 110 = .ok (.lastore, 1) := dk_80 (dk_at dksX11_unlink_4 14 rfl rfl)
theorem dX11_unlink_111 : decode cX11_unlink 111 = .ok (.aload_n 0, 1) := dk_42 (dk_at dksX11_unlink_4 15 rfl rfl)
theorem dX11_unlink_112 : decode cX11_unlink 112 = .ok (.getfield 92, 3) := dk_180 0 92 (dk_at dksX11_unlink_4 16 rfl rfl)
theorem dX11_unlink_115 : decode cX11_unlink 115 = .ok (.iload 8, 2) := dk_21 8 (dk_at dksX11_unlink_4 19 rfl rfl)
theorem dX11_unlink_117 : decode cX11_unlink 117 = .ok (.iload 7, 2) := dk_21 7 (dk_at dksX11_unlink_4 21 rfl rfl)
theorem dX11_unlink_119 : decode cX11_unlink 119 = .ok (.ifCond .ne 16, 3) := dk_154 0 16 (dk_at dksX11_unlink_5 0 rfl rfl)
theorem dX11_unlink_122 : decode cX11_unlink 122 = .ok (.aload_n 0, 1) := dk_42 (dk_at dksX11_unlink_5 3 rfl rfl)
theorem dX11_unlink_123 : decode cX11_unlink 123 = .ok (.iload 6, 2) := dk_21 6 (dk_at dksX11_unlink_5 4 rfl rfl)
theorem dX11_unlink_125 : decode cX11_unlink 125 = .ok (.invokevirtual 236, 3) := dk_182 0 236 (dk_at dksX11_unlink_5 6 rfl rfl)
theorem dX11_unlink_128 : decode cX11_unlink 128 = .ok (.ifCond .ne 7, 3) := dk_154 0 7 (dk_at dksX11_unlink_5 9 rfl rfl)
theorem dX11_unlink_131 : decode cX11_unlink 131 = .ok (.iconst 1, 1) := dk_4 (dk_at dksX11_unlink_5 12 rfl rfl)
theorem dX11_unlink_132 : decode cX11_unlink 132 = .ok (.goto 4, 3) := dk_167 0 4 (dk_at dksX11_unlink_5 13 rfl rfl)
theorem dX11_unlink_135 : decode cX11_unlink 135 = .ok (.iconst 0, 1) := dk_3 (dk_at dksX11_unlink_5 16 rfl rfl)
theorem dX11_unlink_136 : decode cX11_unlink 136 = .ok (.bastore, 1) := dk_84 (dk_at dksX11_unlink_5 17 rfl rfl)
theorem dX11_unlink_137 : decode cX11_unlink 137 = .ok (.aload_n 0, 1) := dk_42 (dk_at dksX11_unlink_5 18 rfl rfl)
theorem dX11_unlink_138 : decode cX11_unlink 138 = .ok (.sipush 144, 3) := dk_17 0 144 (dk_at dksX11_unlink_5 19 rfl rfl)
theorem dX11_unlink_141 : decode cX11_unlink 141 = .ok (.invokevirtual 226, 3) := dk_182 0 226 (dk_at dksX11_unlink_6 0 rfl rfl)
theorem dX11_unlink_144 : decode cX11_unlink 144 = .ok (.iload 7, 2) := dk_21 7 (dk_at dksX11_unlink_6 3 rfl rfl)
theorem dX11_unlink_146 : decode cX11_unlink 146 = .ok (.ireturn, 1) := dk_172 (dk_at dksX11_unlink_6 5 rfl rfl)
abbrev cX11_isOpen : ByteArray := prog_12_method_35_code
def yX11_isOpen : MethodName := ⟨RX11, "isOpen", "(I)Z"⟩
def dkwX11_isOpen_1 : List UInt8 := [4, 167, 0, 4, 3, 61, 132, 3, 1, 167, 255, 227, 28, 172]
abbrev dktX11_isOpen_1 : List UInt8 := dkwX11_isOpen_1 ++ []
def dkwX11_isOpen_0 : List UInt8 := [3, 61, 3, 62, 29, 16, 8, 162, 0, 29, 28, 154, 0, 13, 42, 180, 0, 13, 29, 46, 27, 160, 0, 7]
abbrev dktX11_isOpen_0 : List UInt8 := dkwX11_isOpen_0 ++ dktX11_isOpen_1
theorem dksX11_isOpen_0 : cX11_isOpen.data.toList.drop 0 = dktX11_isOpen_0 := by decide +kernel
theorem dksX11_isOpen_1 : cX11_isOpen.data.toList.drop 24 = dktX11_isOpen_1 := dk_seg dksX11_isOpen_0 24 rfl rfl
theorem dX11_isOpen_0 : decode cX11_isOpen 0 = .ok (.iconst 0, 1) := dk_3 (dk_at dksX11_isOpen_0 0 rfl rfl)
theorem dX11_isOpen_1 : decode cX11_isOpen 1 = .ok (.istore_n 2, 1) := dk_61 (dk_at dksX11_isOpen_0 1 rfl rfl)
theorem dX11_isOpen_2 : decode cX11_isOpen 2 = .ok (.iconst 0, 1) := dk_3 (dk_at dksX11_isOpen_0 2 rfl rfl)
theorem dX11_isOpen_3 : decode cX11_isOpen 3 = .ok (.istore_n 3, 1) := dk_62 (dk_at dksX11_isOpen_0 3 rfl rfl)
theorem dX11_isOpen_4 : decode cX11_isOpen 4 = .ok (.iload_n 3, 1) := dk_29 (dk_at dksX11_isOpen_0 4 rfl rfl)
theorem dX11_isOpen_5 : decode cX11_isOpen 5 = .ok (.bipush 8, 2) := dk_16 8 (dk_at dksX11_isOpen_0 5 rfl rfl)
theorem dX11_isOpen_7 : decode cX11_isOpen 7 = .ok (.if_icmp .ge 29, 3) := dk_162 0 29 (dk_at dksX11_isOpen_0 7 rfl rfl)
theorem dX11_isOpen_10 : decode cX11_isOpen 10 = .ok (.iload_n 2, 1) := dk_28 (dk_at dksX11_isOpen_0 10 rfl rfl)
theorem dX11_isOpen_11 : decode cX11_isOpen 11 = .ok (.ifCond .ne 13, 3) := dk_154 0 13 (dk_at dksX11_isOpen_0 11 rfl rfl)
theorem dX11_isOpen_14 : decode cX11_isOpen 14 = .ok (.aload_n 0, 1) := dk_42 (dk_at dksX11_isOpen_0 14 rfl rfl)
theorem dX11_isOpen_15 : decode cX11_isOpen 15 = .ok (.getfield 13, 3) := dk_180 0 13 (dk_at dksX11_isOpen_0 15 rfl rfl)
theorem dX11_isOpen_18 : decode cX11_isOpen 18 = .ok (.iload_n 3, 1) := dk_29 (dk_at dksX11_isOpen_0 18 rfl rfl)
theorem dX11_isOpen_19 : decode cX11_isOpen 19 = .ok (.iaload, 1) := dk_46 (dk_at dksX11_isOpen_0 19 rfl rfl)
theorem dX11_isOpen_20 : decode cX11_isOpen 20 = .ok (.iload_n 1, 1) := dk_27 (dk_at dksX11_isOpen_0 20 rfl rfl)
theorem dX11_isOpen_21 : decode cX11_isOpen 21 = .ok (.if_icmp .ne 7, 3) := dk_160 0 7 (dk_at dksX11_isOpen_0 21 rfl rfl)
theorem dX11_isOpen_24 : decode cX11_isOpen 24 = .ok (.iconst 1, 1) := dk_4 (dk_at dksX11_isOpen_1 0 rfl rfl)
theorem dX11_isOpen_25 : decode cX11_isOpen 25 = .ok (.goto 4, 3) := dk_167 0 4 (dk_at dksX11_isOpen_1 1 rfl rfl)
theorem dX11_isOpen_28 : decode cX11_isOpen 28 = .ok (.iconst 0, 1) := dk_3 (dk_at dksX11_isOpen_1 4 rfl rfl)
theorem dX11_isOpen_29 : decode cX11_isOpen 29 = .ok (.istore_n 2, 1) := dk_61 (dk_at dksX11_isOpen_1 5 rfl rfl)
theorem dX11_isOpen_30 : decode cX11_isOpen 30 = .ok (.iinc 3 1, 3) := dk_132 3 1 (dk_at dksX11_isOpen_1 6 rfl rfl)
theorem dX11_isOpen_33 : decode cX11_isOpen 33 = .ok (.goto (-29), 3) := dk_167 255 227 (dk_at dksX11_isOpen_1 9 rfl rfl)
theorem dX11_isOpen_36 : decode cX11_isOpen 36 = .ok (.iload_n 2, 1) := dk_28 (dk_at dksX11_isOpen_1 12 rfl rfl)
theorem dX11_isOpen_37 : decode cX11_isOpen 37 = .ok (.ireturn, 1) := dk_172 (dk_at dksX11_isOpen_1 13 rfl rfl)
abbrev cX11_rmdir : ByteArray := prog_12_method_37_code
def yX11_rmdir : MethodName := ⟨RX11, "rmdir", "(IJ)I"⟩
def dkwX11_rmdir_5 : List UInt8 := [84, 42, 17, 0, 144, 182, 0, 226, 21, 6, 172]
abbrev dktX11_rmdir_5 : List UInt8 := dkwX11_rmdir_5 ++ []
def dkwX11_rmdir_4 : List UInt8 := [42, 7, 27, 3, 182, 0, 223, 54, 7, 42, 180, 0, 96, 21, 7, 32, 80, 42, 180, 0, 92, 21, 7, 4]
abbrev dktX11_rmdir_4 : List UInt8 := dkwX11_rmdir_4 ++ dktX11_rmdir_5
def dkwX11_rmdir_3 : List UInt8 := [182, 0, 143, 46, 4, 159, 0, 6, 16, 250, 172, 42, 3, 21, 6, 182, 0, 240, 158, 0, 6, 16, 248, 172]
abbrev dktX11_rmdir_3 : List UInt8 := dkwX11_rmdir_3 ++ dktX11_rmdir_4
def dkwX11_rmdir_2 : List UInt8 := [2, 160, 0, 6, 16, 252, 172, 42, 180, 0, 42, 21, 5, 46, 54, 6, 42, 180, 0, 26, 42, 3, 21, 6]
abbrev dktX11_rmdir_2 : List UInt8 := dkwX11_rmdir_2 ++ dktX11_rmdir_3
def dkwX11_rmdir_1 : List UInt8 := [182, 0, 216, 54, 4, 21, 4, 153, 0, 6, 21, 4, 172, 42, 3, 27, 32, 182, 0, 162, 54, 5, 21, 5]
abbrev dktX11_rmdir_1 : List UInt8 := dkwX11_rmdir_1 ++ dktX11_rmdir_2
def dkwX11_rmdir_0 : List UInt8 := [42, 180, 0, 7, 154, 0, 6, 16, 254, 172, 32, 184, 0, 209, 154, 0, 8, 16, 253, 167, 0, 8, 42, 27]
abbrev dktX11_rmdir_0 : List UInt8 := dkwX11_rmdir_0 ++ dktX11_rmdir_1
theorem dksX11_rmdir_0 : cX11_rmdir.data.toList.drop 0 = dktX11_rmdir_0 := by decide +kernel
theorem dksX11_rmdir_1 : cX11_rmdir.data.toList.drop 24 = dktX11_rmdir_1 := dk_seg dksX11_rmdir_0 24 rfl rfl
theorem dksX11_rmdir_2 : cX11_rmdir.data.toList.drop 48 = dktX11_rmdir_2 := dk_seg dksX11_rmdir_1 24 rfl rfl
theorem dksX11_rmdir_3 : cX11_rmdir.data.toList.drop 72 = dktX11_rmdir_3 := dk_seg dksX11_rmdir_2 24 rfl rfl
theorem dksX11_rmdir_4 : cX11_rmdir.data.toList.drop 96 = dktX11_rmdir_4 := dk_seg dksX11_rmdir_3 24 rfl rfl
theorem dksX11_rmdir_5 : cX11_rmdir.data.toList.drop 120 = dktX11_rmdir_5 := dk_seg dksX11_rmdir_4 24 rfl rfl
theorem dX11_rmdir_0 : decode cX11_rmdir 0 = .ok (.aload_n 0, 1) := dk_42 (dk_at dksX11_rmdir_0 0 rfl rfl)
theorem dX11_rmdir_1 : decode cX11_rmdir 1 = .ok (.getfield 7, 3) := dk_180 0 7 (dk_at dksX11_rmdir_0 1 rfl rfl)
theorem dX11_rmdir_4 : decode cX11_rmdir 4 = .ok (.ifCond .ne 6, 3) := dk_154 0 6 (dk_at dksX11_rmdir_0 4 rfl rfl)
theorem dX11_rmdir_7 : decode cX11_rmdir 7 = .ok (.bipush (-2), 2) := dk_16 254 (dk_at dksX11_rmdir_0 7 rfl rfl)
theorem dX11_rmdir_9 : decode cX11_rmdir 9 = .ok (.ireturn, 1) := dk_172 (dk_at dksX11_rmdir_0 9 rfl rfl)
theorem dX11_rmdir_10 : decode cX11_rmdir 10 = .ok (.lload_n 2, 1) := dk_32 (dk_at dksX11_rmdir_0 10 rfl rfl)
theorem dX11_rmdir_11 : decode cX11_rmdir 11 = .ok (.invokestatic 209, 3) := dk_184 0 209 (dk_at dksX11_rmdir_0 11 rfl rfl)
theorem dX11_rmdir_14 : decode cX11_rmdir 14 = .ok (.ifCond .ne 8, 3) := dk_154 0 8 (dk_at dksX11_rmdir_0 14 rfl rfl)
theorem dX11_rmdir_17 : decode cX11_rmdir 17 = .ok (.bipush (-3), 2) := dk_16 253 (dk_at dksX11_rmdir_0 17 rfl rfl)
theorem dX11_rmdir_19 : decode cX11_rmdir 19 = .ok (.goto 8, 3) := dk_167 0 8 (dk_at dksX11_rmdir_0 19 rfl rfl)
theorem dX11_rmdir_22 : decode cX11_rmdir 22 = .ok (.aload_n 0, 1) := dk_42 (dk_at dksX11_rmdir_0 22 rfl rfl)
theorem dX11_rmdir_23 : decode cX11_rmdir 23 = .ok (.iload_n 1, 1) := dk_27 (dk_at dksX11_rmdir_0 23 rfl rfl)
theorem dX11_rmdir_24 : decode cX11_rmdir 24 = .ok (.invokevirtual 216, 3) := dk_182 0 216 (dk_at dksX11_rmdir_1 0 rfl rfl)
theorem dX11_rmdir_27 : decode cX11_rmdir 27 = .ok (.istore 4, 2) := dk_54 4 (dk_at dksX11_rmdir_1 3 rfl rfl)
theorem dX11_rmdir_29 : decode cX11_rmdir 29 = .ok (.iload 4, 2) := dk_21 4 (dk_at dksX11_rmdir_1 5 rfl rfl)
theorem dX11_rmdir_31 : decode cX11_rmdir 31 = .ok (.ifCond .eq 6, 3) := dk_153 0 6 (dk_at dksX11_rmdir_1 7 rfl rfl)
theorem dX11_rmdir_34 : decode cX11_rmdir 34 = .ok (.iload 4, 2) := dk_21 4 (dk_at dksX11_rmdir_1 10 rfl rfl)
theorem dX11_rmdir_36 : decode cX11_rmdir 36 = .ok (.ireturn, 1) := dk_172 (dk_at dksX11_rmdir_1 12 rfl rfl)
theorem dX11_rmdir_37 : decode cX11_rmdir 37 = .ok (.aload_n 0, 1) := dk_42 (dk_at dksX11_rmdir_1 13 rfl rfl)
theorem dX11_rmdir_38 : decode cX11_rmdir 38 = .ok (.iconst 0, 1) := dk_3 (dk_at dksX11_rmdir_1 14 rfl rfl)
theorem dX11_rmdir_39 : decode cX11_rmdir 39 = .ok (.iload_n 1, 1) := dk_27 (dk_at dksX11_rmdir_1 15 rfl rfl)
theorem dX11_rmdir_40 : decode cX11_rmdir 40 = .ok (.lload_n 2, 1) := dk_32 (dk_at dksX11_rmdir_1 16 rfl rfl)
theorem dX11_rmdir_41 : decode cX11_rmdir 41 = .ok (.invokevirtual 162, 3) := dk_182 0 162 (dk_at dksX11_rmdir_1 17 rfl rfl)
theorem dX11_rmdir_44 : decode cX11_rmdir 44 = .ok (.istore 5, 2) := dk_54 5 (dk_at dksX11_rmdir_1 20 rfl rfl)
theorem dX11_rmdir_46 : decode cX11_rmdir 46 = .ok (.iload 5, 2) := dk_21 5 (dk_at dksX11_rmdir_1 22 rfl rfl)
theorem dX11_rmdir_48 : decode cX11_rmdir 48 = .ok (.iconst (-1), 1) := dk_2 (dk_at dksX11_rmdir_2 0 rfl rfl)
theorem dX11_rmdir_49 : decode cX11_rmdir 49 = .ok (.if_icmp .ne 6, 3) := dk_160 0 6 (dk_at dksX11_rmdir_2 1 rfl rfl)
theorem dX11_rmdir_52 : decode cX11_rmdir 52 = .ok (.bipush (-4), 2) := dk_16 252 (dk_at dksX11_rmdir_2 4 rfl rfl)
theorem dX11_rmdir_54 : decode cX11_rmdir 54 = .ok (.ireturn, 1) := dk_172 (dk_at dksX11_rmdir_2 6 rfl rfl)
theorem dX11_rmdir_55 : decode cX11_rmdir 55 = .ok (.aload_n 0, 1) := dk_42 (dk_at dksX11_rmdir_2 7 rfl rfl)
theorem dX11_rmdir_56 : decode cX11_rmdir 56 = .ok (.getfield 42, 3) := dk_180 0 42 (dk_at dksX11_rmdir_2 8 rfl rfl)
theorem dX11_rmdir_59 : decode cX11_rmdir 59 = .ok (.iload 5, 2) := dk_21 5 (dk_at dksX11_rmdir_2 11 rfl rfl)
theorem dX11_rmdir_61 : decode cX11_rmdir 61 = .ok (.iaload, 1) := dk_46 (dk_at dksX11_rmdir_2 13 rfl rfl)
theorem dX11_rmdir_62 : decode cX11_rmdir 62 = .ok (.istore 6, 2) := dk_54 6 (dk_at dksX11_rmdir_2 14 rfl rfl)
theorem dX11_rmdir_64 : decode cX11_rmdir 64 = .ok (.aload_n 0, 1) := dk_42 (dk_at dksX11_rmdir_2 16 rfl rfl)
theorem dX11_rmdir_65 : decode cX11_rmdir 65 = .ok (.getfield 26, 3) := dk_180 0 26 (dk_at dksX11_rmdir_2 17 rfl rfl)
theorem dX11_rmdir_68 : decode cX11_rmdir 68 = .ok (.aload_n 0, 1) := dk_42 (dk_at dksX11_rmdir_2 20 rfl rfl)
theorem dX11_rmdir_69 : decode cX11_rmdir 69 = .ok (.iconst 0, 1) := dk_3 (dk_at dksX11_rmdir_2 21 rfl rfl)
theorem dX11_rmdir_70 : decode cX11_rmdir 70 = .ok (.iload 6, 2) := dk_21 6 (dk_at dksX11_rmdir_2 22 rfl rfl)
theorem dX11_rmdir_72 : decode cX11_rmdir 72 = .ok (.invokevirtual 143, 3) := dk_182 0 143 (dk_at dksX11_rmdir_3 0 rfl rfl)
theorem dX11_rmdir_75 : decode cX11_rmdir 75 = .ok (.iaload, 1) := dk_46 (dk_at dksX11_rmdir_3 3 rfl rfl)
theorem dX11_rmdir_76 : decode cX11_rmdir 76 = .ok (.iconst 1, 1) := dk_4 (dk_at dksX11_rmdir_3 4 rfl rfl)
theorem dX11_rmdir_77 : decode cX11_rmdir 77 = .ok (.if_icmp .eq 6, 3) := dk_159 0 6 (dk_at dksX11_rmdir_3 5 rfl rfl)
theorem dX11_rmdir_80 : decode cX11_rmdir 80 = .ok (.bipush (-6), 2) := dk_16 250 (dk_at dksX11_rmdir_3 8 rfl rfl)
theorem dX11_rmdir_82 : decode cX11_rmdir 82 = .ok (.ireturn, 1) := dk_172 (dk_at dksX11_rmdir_3 10 rfl rfl)
theorem dX11_rmdir_83 : decode cX11_rmdir 83 = .ok (.aload_n 0, 1) := dk_42 (dk_at dksX11_rmdir_3 11 rfl rfl)
theorem dX11_rmdir_84 : decode cX11_rmdir 84 = .ok (.iconst 0, 1) := dk_3 (dk_at dksX11_rmdir_3 12 rfl rfl)
theorem dX11_rmdir_85 : decode cX11_rmdir 85 = .ok (.iload 6, 2) := dk_21 6 (dk_at dksX11_rmdir_3 13 rfl rfl)
theorem dX11_rmdir_87 : decode cX11_rmdir 87 = .ok (.invokevirtual 240, 3) := dk_182 0 240 (dk_at dksX11_rmdir_3 15 rfl rfl)
theorem dX11_rmdir_90 : decode cX11_rmdir 90 = .ok (.ifCond .le 6, 3) := dk_158 0 6 (dk_at dksX11_rmdir_3 18 rfl rfl)
theorem dX11_rmdir_93 : decode cX11_rmdir 93 = .ok (.bipush (-8), 2) := dk_16 248 (dk_at dksX11_rmdir_3 21 rfl rfl)
theorem dX11_rmdir_95 : decode cX11_rmdir 95 = .ok (.ireturn, 1) := dk_172 (dk_at dksX11_rmdir_3 23 rfl rfl)
theorem dX11_rmdir_96 : decode cX11_rmdir 96 = .ok (.aload_n 0, 1) := dk_42 (dk_at dksX11_rmdir_4 0 rfl rfl)
theorem dX11_rmdir_97 : decode cX11_rmdir 97 = .ok (.iconst 4, 1) := dk_7 (dk_at dksX11_rmdir_4 1 rfl rfl)
theorem dX11_rmdir_98 : decode cX11_rmdir 98 = .ok (.iload_n 1, 1) := dk_27 (dk_at dksX11_rmdir_4 2 rfl rfl)
theorem dX11_rmdir_99 : decode cX11_rmdir 99 = .ok (.iconst 0, 1) := dk_3 (dk_at dksX11_rmdir_4 3 rfl rfl)
theorem dX11_rmdir_100 : decode cX11_rmdir 100 = .ok (.invokevirtual 223, 3) := dk_182 0 223 (dk_at dksX11_rmdir_4 4 rfl rfl)
theorem dX11_rmdir_103 : decode cX11_rmdir 103 = .ok (.istore 7, 2) := dk_54 7 (dk_at dksX11_rmdir_4 7 rfl rfl)
theorem dX11_rmdir_105 : decode cX11_rmdir 105 = .ok (.aload_n 0, 1) := dk_42 (dk_at dksX11_rmdir_4 9 rfl rfl)
theorem dX11_rmdir_106 : decode cX11_rmdir 106 = .ok (.getfield 96, 3) := dk_180 0 96 (dk_at dksX11_rmdir_4 10 rfl rfl)
theorem dX11_rmdir_109 : decode cX11_rmdir 109 = .ok (.iload 7, 2) := dk_21 7 (dk_at dksX11_rmdir_4 13 rfl rfl)
theorem dX11_rmdir_111 : decode cX11_rmdir 111 = .ok (.lload_n 2, 1) := dk_32 (dk_at dksX11_rmdir_4 15 rfl rfl)
theorem dX11_rmdir_112 : decode cX11_rmdir 112 = .ok (.lastore, 1) := dk_80 (dk_at dksX11_rmdir_4 16 rfl rfl)
theorem dX11_rmdir_113 : decode cX11_rmdir 113 = .ok (.aload_n 0, 1) := dk_42 (dk_at dksX11_rmdir_4 17 rfl rfl)
theorem dX11_rmdir_114 : decode cX11_rmdir 114 = .ok (.getfield 92, 3) := dk_180 0 92 (dk_at dksX11_rmdir_4 18 rfl rfl)
theorem dX11_rmdir_117 : decode cX11_rmdir 117 = .ok (.iload 7, 2) := dk_21 7 (dk_at dksX11_rmdir_4 21 rfl rfl)
theorem dX11_rmdir_119 : decode cX11_rmdir 119 = .ok (.iconst 1, 1) := dk_4 (dk_at dksX11_rmdir_4 23 rfl rfl)
theorem dX11_rmdir_120 : decode cX11_rmdir 120 = .ok (.bastore, 1) := dk_84 (dk_at dksX11_rmdir_5 0 rfl rfl)
theorem dX11_rmdir_121 : decode cX11_rmdir 121 = .ok (.aload_n 0, 1) := dk_42 (dk_at dksX11_rmdir_5 1 rfl rfl)
theorem dX11_rmdir_122 : decode cX11_rmdir 122 = .ok (.sipush 144, 3) := dk_17 0 144 (dk_at dksX11_rmdir_5 2 rfl rfl)
theorem dX11_rmdir_125 : decode cX11_rmdir 125 = .ok (.invokevirtual 226, 3) := dk_182 0 226 (dk_at dksX11_rmdir_5 5 rfl rfl)
theorem dX11_rmdir_128 : decode cX11_rmdir 128 = .ok (.iload 6, 2) := dk_21 6 (dk_at dksX11_rmdir_5 8 rfl rfl)
theorem dX11_rmdir_130 : decode cX11_rmdir 130 = .ok (.ireturn, 1) := dk_172 (dk_at dksX11_rmdir_5 10 rfl rfl)
abbrev cX11_filled : ByteArray := prog_12_method_13_code
def yX11_filled : MethodName := ⟨RX11, "filled", "(II)I"⟩
def dkwX11_filled_2 : List UInt8 := [132, 4, 1, 167, 255, 217, 29, 172]
abbrev dktX11_filled_2 : List UInt8 := dkwX11_filled_2 ++ []
def dkwX11_filled_1 : List UInt8 := [162, 0, 28, 29, 42, 180, 0, 35, 21, 4, 46, 28, 160, 0, 7, 4, 167, 0, 4, 3, 96, 62]
abbrev dktX11_filled_1 : List UInt8 := dkwX11_filled_1 ++ dktX11_filled_2
def dkwX11_filled_0 : List UInt8 := [3, 62, 17, 2, 188, 27, 104, 54, 4, 21, 4, 17, 2, 188, 27, 104, 42, 180, 0, 32, 27, 46, 96]
abbrev dktX11_filled_0 : List UInt8 := dkwX11_filled_0 ++ dktX11_filled_1
theorem dksX11_filled_0 : cX11_filled.data.toList.drop 0 = dktX11_filled_0 := by decide +kernel
theorem dksX11_filled_1 : cX11_filled.data.toList.drop 23 = dktX11_filled_1 := dk_seg dksX11_filled_0 23 rfl rfl
theorem dksX11_filled_2 : cX11_filled.data.toList.drop 45 = dktX11_filled_2 := dk_seg dksX11_filled_1 22 rfl rfl
theorem dX11_filled_0 : decode cX11_filled 0 = .ok (.iconst 0, 1) := dk_3 (dk_at dksX11_filled_0 0 rfl rfl)
theorem dX11_filled_1 : decode cX11_filled 1 = .ok (.istore_n 3, 1) := dk_62 (dk_at dksX11_filled_0 1 rfl rfl)
theorem dX11_filled_2 : decode cX11_filled 2 = .ok (.sipush 700, 3) := dk_17 2 188 (dk_at dksX11_filled_0 2 rfl rfl)
theorem dX11_filled_5 : decode cX11_filled 5 = .ok (.iload_n 1, 1) := dk_27 (dk_at dksX11_filled_0 5 rfl rfl)
theorem dX11_filled_6 : decode cX11_filled 6 = .ok (.imul, 1) := dk_104 (dk_at dksX11_filled_0 6 rfl rfl)
theorem dX11_filled_7 : decode cX11_filled 7 = .ok (.istore 4, 2) := dk_54 4 (dk_at dksX11_filled_0 7 rfl rfl)
theorem dX11_filled_9 : decode cX11_filled 9 = .ok (.iload 4, 2) := dk_21 4 (dk_at dksX11_filled_0 9 rfl rfl)
theorem dX11_filled_11 : decode cX11_filled 11 = .ok (.sipush 700, 3) := dk_17 2 188 (dk_at dksX11_filled_0 11 rfl rfl)
theorem dX11_filled_14 : decode cX11_filled 14 = .ok (.iload_n 1, 1) := dk_27 (dk_at dksX11_filled_0 14 rfl rfl)
theorem dX11_filled_15 : decode cX11_filled 15 = .ok (.imul, 1) := dk_104 (dk_at dksX11_filled_0 15 rfl rfl)
theorem dX11_filled_16 : decode cX11_filled 16 = .ok (.aload_n 0, 1) := dk_42 (dk_at dksX11_filled_0 16 rfl rfl)
theorem dX11_filled_17 : decode cX11_filled 17 = .ok (.getfield 32, 3) := dk_180 0 32 (dk_at dksX11_filled_0 17 rfl rfl)
theorem dX11_filled_20 : decode cX11_filled 20 = .ok (.iload_n 1, 1) := dk_27 (dk_at dksX11_filled_0 20 rfl rfl)
theorem dX11_filled_21 : decode cX11_filled 21 = .ok (.iaload, 1) := dk_46 (dk_at dksX11_filled_0 21 rfl rfl)
theorem dX11_filled_22 : decode cX11_filled 22 = .ok (.iadd, 1) := dk_96 (dk_at dksX11_filled_0 22 rfl rfl)
theorem dX11_filled_23 : decode cX11_filled 23 = .ok (.if_icmp .ge 28, 3) := dk_162 0 28 (dk_at dksX11_filled_1 0 rfl rfl)
theorem dX11_filled_26 : decode cX11_filled 26 = .ok (.iload_n 3, 1) := dk_29 (dk_at dksX11_filled_1 3 rfl rfl)
theorem dX11_filled_27 : decode cX11_filled 27 = .ok (.aload_n 0, 1) := dk_42 (dk_at dksX11_filled_1 4 rfl rfl)
theorem dX11_filled_28 : decode cX11_filled 28 = .ok (.getfield 35, 3) := dk_180 0 35 (dk_at dksX11_filled_1 5 rfl rfl)
theorem dX11_filled_31 : decode cX11_filled 31 = .ok (.iload 4, 2) := dk_21 4 (dk_at dksX11_filled_1 8 rfl rfl)
theorem dX11_filled_33 : decode cX11_filled 33 = .ok (.iaload, 1) := dk_46 (dk_at dksX11_filled_1 10 rfl rfl)
theorem dX11_filled_34 : decode cX11_filled 34 = .ok (.iload_n 2, 1) := dk_28 (dk_at dksX11_filled_1 11 rfl rfl)
theorem dX11_filled_35 : decode cX11_filled 35 = .ok (.if_icmp .ne 7, 3) := dk_160 0 7 (dk_at dksX11_filled_1 12 rfl rfl)
theorem dX11_filled_38 : decode cX11_filled 38 = .ok (.iconst 1, 1) := dk_4 (dk_at dksX11_filled_1 15 rfl rfl)
theorem dX11_filled_39 : decode cX11_filled 39 = .ok (.goto 4, 3) := dk_167 0 4 (dk_at dksX11_filled_1 16 rfl rfl)
theorem dX11_filled_42 : decode cX11_filled 42 = .ok (.iconst 0, 1) := dk_3 (dk_at dksX11_filled_1 19 rfl rfl)
theorem dX11_filled_43 : decode cX11_filled 43 = .ok (.iadd, 1) := dk_96 (dk_at dksX11_filled_1 20 rfl rfl)
theorem dX11_filled_44 : decode cX11_filled 44 = .ok (.istore_n 3, 1) := dk_62 (dk_at dksX11_filled_1 21 rfl rfl)
theorem dX11_filled_45 : decode cX11_filled 45 = .ok (.iinc 4 1, 3) := dk_132 4 1 (dk_at dksX11_filled_2 0 rfl rfl)
theorem dX11_filled_48 : decode cX11_filled 48 = .ok (.goto (-39), 3) := dk_167 255 217 (dk_at dksX11_filled_2 3 rfl rfl)
theorem dX11_filled_51 : decode cX11_filled 51 = .ok (.iload_n 3, 1) := dk_29 (dk_at dksX11_filled_2 6 rfl rfl)
theorem dX11_filled_52 : decode cX11_filled 52 = .ok (.ireturn, 1) := dk_172 (dk_at dksX11_filled_2 7 rfl rfl)
abbrev cX11_rename : ByteArray := prog_12_method_39_code
def yX11_rename : MethodName := ⟨RX11, "rename", "(IJIJ)I"⟩
def dkwX11_rename_15 : List UInt8 := [167, 0, 5, 16, 48, 96, 182, 0, 226, 21, 11, 2, 160, 0, 7, 3, 167, 0, 4, 4, 172]
abbrev dktX11_rename_15 : List UInt8 := dkwX11_rename_15 ++ []
def dkwX11_rename_14 : List UInt8 := [42, 27, 21, 4, 160, 0, 9, 17, 0, 144, 167, 0, 6, 17, 0, 192, 21, 11, 2, 160, 0, 7, 3]
abbrev dktX11_rename_14 : List UInt8 := dkwX11_rename_14 ++ dktX11_rename_15
def dkwX11_rename_13 : List UInt8 := [21, 11, 182, 0, 233, 4, 160, 0, 16, 42, 21, 11, 182, 0, 236, 154, 0, 7, 4, 167, 0, 4, 3, 84]
abbrev dktX11_rename_13 : List UInt8 := dkwX11_rename_13 ++ dktX11_rename_14
def dkwX11_rename_12 : List UInt8 := [21, 13, 22, 5, 80, 42, 180, 0, 92, 21, 13, 21, 11, 2, 159, 0, 32, 21, 12, 154, 0, 23, 42, 3]
abbrev dktX11_rename_12 : List UInt8 := dkwX11_rename_12 ++ dktX11_rename_13
def dkwX11_rename_11 : List UInt8 := [172, 42, 8, 27, 21, 4, 182, 0, 223, 54, 13, 42, 180, 0, 96, 21, 13, 32, 80, 42, 180, 0, 99]
abbrev dktX11_rename_11 : List UInt8 := dkwX11_rename_11 ++ dktX11_rename_12
def dkwX11_rename_10 : List UInt8 := [3, 21, 11, 182, 0, 240, 158, 0, 8, 16, 248, 167, 0, 4, 3, 54, 7, 21, 7, 153, 0, 6, 21, 7]
abbrev dktX11_rename_10 : List UInt8 := dkwX11_rename_10 ++ dktX11_rename_11
def dkwX11_rename_9 : List UInt8 := [167, 0, 39, 21, 12, 154, 0, 13, 21, 13, 153, 0, 8, 16, 249, 167, 0, 24, 21, 13, 153, 0, 18, 42]
abbrev dktX11_rename_9 : List UInt8 := dkwX11_rename_9 ++ dktX11_rename_10
def dkwX11_rename_8 : List UInt8 := [4, 160, 0, 7, 4, 167, 0, 4, 3, 54, 13, 21, 12, 153, 0, 13, 21, 13, 154, 0, 8, 16, 250]
abbrev dktX11_rename_8 : List UInt8 := dkwX11_rename_8 ++ dktX11_rename_9
def dkwX11_rename_7 : List UInt8 := [153, 0, 6, 16, 247, 172, 21, 11, 2, 159, 0, 87, 42, 180, 0, 26, 42, 3, 21, 11, 182, 0, 143, 46]
abbrev dktX11_rename_7 : List UInt8 := dkwX11_rename_7 ++ dktX11_rename_8
def dkwX11_rename_6 : List UInt8 := [160, 0, 7, 4, 167, 0, 4, 3, 54, 12, 21, 12, 153, 0, 17, 42, 21, 4, 21, 9, 182, 0, 243]
abbrev dktX11_rename_6 : List UInt8 := dkwX11_rename_6 ++ dktX11_rename_7
def dkwX11_rename_5 : List UInt8 := [54, 11, 21, 11, 21, 9, 160, 0, 5, 3, 172, 42, 180, 0, 26, 42, 3, 21, 9, 182, 0, 143, 46, 4]
abbrev dktX11_rename_5 : List UInt8 := dkwX11_rename_5 ++ dktX11_rename_6
def dkwX11_rename_4 : List UInt8 := [22, 5, 182, 0, 162, 54, 10, 21, 10, 2, 160, 0, 7, 2, 167, 0, 10, 42, 180, 0, 42, 21, 10, 46]
abbrev dktX11_rename_4 : List UInt8 := dkwX11_rename_4 ++ dktX11_rename_5
def dkwX11_rename_3 : List UInt8 := [54, 7, 21, 7, 153, 0, 6, 21, 7, 172, 42, 180, 0, 42, 21, 8, 46, 54, 9, 42, 3, 21, 4]
abbrev dktX11_rename_3 : List UInt8 := dkwX11_rename_3 ++ dktX11_rename_4
def dkwX11_rename_2 : List UInt8 := [3, 27, 32, 182, 0, 162, 54, 8, 21, 8, 2, 160, 0, 6, 16, 252, 172, 42, 21, 4, 182, 0, 216]
abbrev dktX11_rename_2 : List UInt8 := dkwX11_rename_2 ++ dktX11_rename_3
def dkwX11_rename_1 : List UInt8 := [154, 0, 8, 16, 253, 167, 0, 8, 42, 27, 182, 0, 216, 54, 7, 21, 7, 153, 0, 6, 21, 7, 172, 42]
abbrev dktX11_rename_1 : List UInt8 := dkwX11_rename_1 ++ dktX11_rename_2
def dkwX11_rename_0 : List UInt8 := [42, 180, 0, 7, 154, 0, 6, 16, 254, 172, 32, 184, 0, 209, 153, 0, 11, 22, 5, 184, 0, 209]
abbrev dktX11_rename_0 : List UInt8 := dkwX11_rename_0 ++ dktX11_rename_1
theorem dksX11_rename_0 : cX11_rename.data.toList.drop 0 = dktX11_rename_0 := by decide +kernel
theorem dksX11_rename_1 : cX11_rename.data.toList.drop 22 = dktX11_rename_1 := dk_seg dksX11_rename_0 22 rfl rfl
theorem dksX11_rename_2 : cX11_rename.data.toList.drop 46 = dktX11_rename_2 := dk_seg dksX11_rename_1 24 rfl rfl
theorem dksX11_rename_3 : cX11_rename.data.toList.drop 69 = dktX11_rename_3 := dk_seg dksX11_rename_2 23 rfl rfl
theorem dksX11_rename_4 : cX11_rename.data.toList.drop 92 = dktX11_rename_4 := dk_seg dksX11_rename_3 23 rfl rfl
theorem dksX11_rename_5 : cX11_rename.data.toList.drop 116 = dktX11_rename_5 := dk_seg dksX11_rename_4 24 rfl rfl
theorem dksX11_rename_6 : cX11_rename.data.toList.drop 140 = dktX11_rename_6 := dk_seg dksX11_rename_5 24 rfl rfl
theorem dksX11_rename_7 : cX11_rename.data.toList.drop 163 = dktX11_rename_7 := dk_seg dksX11_rename_6 23 rfl rfl
theorem dksX11_rename_8 : cX11_rename.data.toList.drop 187 = dktX11_rename_8 := dk_seg dksX11_rename_7 24 rfl rfl
theorem dksX11_rename_9 : cX11_rename.data.toList.drop 210 = dktX11_rename_9 := dk_seg dksX11_rename_8 23 rfl rfl
theorem dksX11_rename_10 : cX11_rename.data.toList.drop 234 = dktX11_rename_10 := dk_seg dksX11_rename_9 24 rfl rfl
theorem dksX11_rename_11 : cX11_rename.data.toList.drop 258 = dktX11_rename_11 := dk_seg dksX11_rename_10 24 rfl rfl
theorem dksX11_rename_12 : cX11_rename.data.toList.drop 281 = dktX11_rename_12 := dk_seg dksX11_rename_11 23 rfl rfl
theorem dksX11_rename_13 : cX11_rename.data.toList.drop 305 = dktX11_rename_13 := dk_seg dksX11_rename_12 24 rfl rfl
theorem dksX11_rename_14 : cX11_rename.data.toList.drop 329 = dktX11_rename_14 := dk_seg dksX11_rename_13 24 rfl rfl
theorem dksX11_rename_15 : cX11_rename.data.toList.drop 352 = dktX11_rename_15 := dk_seg dksX11_rename_14 23 rfl rfl
theorem dX11_rename_0 : decode cX11_rename 0 = .ok (.aload_n 0, 1) := dk_42 (dk_at dksX11_rename_0 0 rfl rfl)
theorem dX11_rename_1 : decode cX11_rename 1 = .ok (.getfield 7, 3) := dk_180 0 7 (dk_at dksX11_rename_0 1 rfl rfl)
theorem dX11_rename_4 : decode cX11_rename 4 = .ok (.ifCond .ne 6, 3) := dk_154 0 6 (dk_at dksX11_rename_0 4 rfl rfl)
theorem dX11_rename_7 : decode cX11_rename 7 = .ok (.bipush (-2), 2) := dk_16 254 (dk_at dksX11_rename_0 7 rfl rfl)
theorem dX11_rename_9 : decode cX11_rename 9 = .ok (.ireturn, 1) := dk_172 (dk_at dksX11_rename_0 9 rfl rfl)
theorem dX11_rename_10 : decode cX11_rename 10 = .ok (.lload_n 2, 1) := dk_32 (dk_at dksX11_rename_0 10 rfl rfl)
theorem dX11_rename_11 : decode cX11_rename 11 = .ok (.invokestatic 209, 3) := dk_184 0 209 (dk_at dksX11_rename_0 11 rfl rfl)
theorem dX11_rename_14 : decode cX11_rename 14 = .ok (.ifCond .eq 11, 3) := dk_153 0 11 (dk_at dksX11_rename_0 14 rfl rfl)
theorem dX11_rename_17 : decode cX11_rename 17 = .ok (.lload 5, 2) := dk_22 5 (dk_at dksX11_rename_0 17 rfl rfl)
theorem dX11_rename_19 : decode cX11_rename 19 = .ok (.invokestatic 209, 3) := dk_184 0 209 (dk_at dksX11_rename_0 19 rfl rfl)
theorem dX11_rename_22 : decode cX11_rename 22 = .ok (.ifCond .ne 8, 3) := dk_154 0 8 (dk_at dksX11_rename_1 0 rfl rfl)
theorem dX11_rename_25 : decode cX11_rename 25 = .ok (.bipush (-3), 2) := dk_16 253 (dk_at dksX11_rename_1 3 rfl rfl)
theorem dX11_rename_27 : decode cX11_rename 27 = .ok (.goto 8, 3) := dk_167 0 8 (dk_at dksX11_rename_1 5 rfl rfl)
theorem dX11_rename_30 : decode cX11_rename 30 = .ok (.aload_n 0, 1) := dk_42 (dk_at dksX11_rename_1 8 rfl rfl)
theorem dX11_rename_31 : decode cX11_rename 31 = .ok (.iload_n 1, 1) := dk_27 (dk_at dksX11_rename_1 9 rfl rfl)
theorem dX11_rename_32 : decode cX11_rename 32 = .ok (.invokevirtual 216, 3) := dk_182 0 216 (dk_at dksX11_rename_1 10 rfl rfl)
theorem dX11_rename_35 : decode cX11_rename 35 = .ok (.istore 7, 2) := dk_54 7 (dk_at dksX11_rename_1 13 rfl rfl)
theorem dX11_rename_37 : decode cX11_rename 37 = .ok (.iload 7, 2) := dk_21 7 (dk_at dksX11_rename_1 15 rfl rfl)
theorem dX11_rename_39 : decode cX11_rename 39 = .ok (.ifCond .eq 6, 3) := dk_153 0 6 (dk_at dksX11_rename_1 17 rfl rfl)
theorem dX11_rename_42 : decode cX11_rename 42 = .ok (.iload 7, 2) := dk_21 7 (dk_at dksX11_rename_1 20 rfl rfl)
theorem dX11_rename_44 : decode cX11_rename 44 = .ok (.ireturn, 1) := dk_172 (dk_at dksX11_rename_1 22 rfl rfl)
theorem dX11_rename_45 : decode cX11_rename 45 = .ok (.aload_n 0, 1) := dk_42 (dk_at dksX11_rename_1 23 rfl rfl)
theorem dX11_rename_46 : decode cX11_rename 46 = .ok (.iconst 0, 1) := dk_3 (dk_at dksX11_rename_2 0 rfl rfl)
theorem dX11_rename_47 : decode cX11_rename 47 = .ok (.iload_n 1, 1) := dk_27 (dk_at dksX11_rename_2 1 rfl rfl)
theorem dX11_rename_48 : decode cX11_rename 48 = .ok (.lload_n 2, 1) := dk_32 (dk_at dksX11_rename_2 2 rfl rfl)
theorem dX11_rename_49 : decode cX11_rename 49 = .ok (.invokevirtual 162, 3) := dk_182 0 162 (dk_at dksX11_rename_2 3 rfl rfl)
theorem dX11_rename_52 : decode cX11_rename 52 = .ok (.istore 8, 2) := dk_54 8 (dk_at dksX11_rename_2 6 rfl rfl)
theorem dX11_rename_54 : decode cX11_rename 54 = .ok (.iload 8, 2) := dk_21 8 (dk_at dksX11_rename_2 8 rfl rfl)
theorem dX11_rename_56 : decode cX11_rename 56 = .ok (.iconst (-1), 1) := dk_2 (dk_at dksX11_rename_2 10 rfl rfl)
theorem dX11_rename_57 : decode cX11_rename 57 = .ok (.if_icmp .ne 6, 3) := dk_160 0 6 (dk_at dksX11_rename_2 11 rfl rfl)
theorem dX11_rename_60 : decode cX11_rename 60 = .ok (.bipush (-4), 2) := dk_16 252 (dk_at dksX11_rename_2 14 rfl rfl)
theorem dX11_rename_62 : decode cX11_rename 62 = .ok (.ireturn, 1) := dk_172 (dk_at dksX11_rename_2 16 rfl rfl)
theorem dX11_rename_63 : decode cX11_rename 63 = .ok (.aload_n 0, 1) := dk_42 (dk_at dksX11_rename_2 17 rfl rfl)
theorem dX11_rename_64 : decode cX11_rename 64 = .ok (.iload 4, 2) := dk_21 4 (dk_at dksX11_rename_2 18 rfl rfl)
theorem dX11_rename_66 : decode cX11_rename 66 = .ok (.invokevirtual 216, 3) := dk_182 0 216 (dk_at dksX11_rename_2 20 rfl rfl)
theorem dX11_rename_69 : decode cX11_rename 69 = .ok (.istore 7, 2) := dk_54 7 (dk_at dksX11_rename_3 0 rfl rfl)
theorem dX11_rename_71 : decode cX11_rename 71 = .ok (.iload 7, 2) := dk_21 7 (dk_at dksX11_rename_3 2 rfl rfl)
theorem dX11_rename_73 : decode cX11_rename 73 = .ok (.ifCond .eq 6, 3) := dk_153 0 6 (dk_at dksX11_rename_3 4 rfl rfl)
theorem dX11_rename_76 : decode cX11_rename 76 = .ok (.iload 7, 2) := dk_21 7 (dk_at dksX11_rename_3 7 rfl rfl)
theorem dX11_rename_78 : decode cX11_rename 78 = .ok (.ireturn, 1) := dk_172 (dk_at dksX11_rename_3 9 rfl rfl)
theorem dX11_rename_79 : decode cX11_rename 79 = .ok (.aload_n 0, 1) := dk_42 (dk_at dksX11_rename_3 10 rfl rfl)
theorem dX11_rename_80 : decode cX11_rename 80 = .ok (.getfield 42, 3) := dk_180 0 42 (dk_at dksX11_rename_3 11 rfl rfl)
theorem dX11_rename_83 : decode cX11_rename 83 = .ok (.iload 8, 2) := dk_21 8 (dk_at dksX11_rename_3 14 rfl rfl)
theorem dX11_rename_85 : decode cX11_rename 85 = .ok (.iaload, 1) := dk_46 (dk_at dksX11_rename_3 16 rfl rfl)
theorem dX11_rename_86 : decode cX11_rename 86 = .ok (.istore 9, 2) := dk_54 9 (dk_at dksX11_rename_3 17 rfl rfl)
theorem dX11_rename_88 : decode cX11_rename 88 = .ok (.aload_n 0, 1) := dk_42 (dk_at dksX11_rename_3 19 rfl rfl)
theorem dX11_rename_89 : decode cX11_rename 89 = .ok (.iconst 0, 1) := dk_3 (dk_at dksX11_rename_3 20 rfl rfl)
theorem dX11_rename_90 : decode cX11_rename 90 = .ok (.iload 4, 2) := dk_21 4 (dk_at dksX11_rename_3 21 rfl rfl)
theorem dX11_rename_92 : decode cX11_rename 92 = .ok (.lload 5, 2) := dk_22 5 (dk_at dksX11_rename_4 0 rfl rfl)
theorem dX11_rename_94 : decode cX11_rename 94 = .ok (.invokevirtual 162, 3) := dk_182 0 162 (dk_at dksX11_rename_4 2 rfl rfl)
theorem dX11_rename_97 : decode cX11_rename 97 = .ok (.istore 10, 2) := dk_54 10 (dk_at dksX11_rename_4 5 rfl rfl)
theorem dX11_rename_99 : decode cX11_rename 99 = .ok (.iload 10, 2) := dk_21 10 (dk_at dksX11_rename_4 7 rfl rfl)
theorem dX11_rename_101 : decode cX11_rename 101 = .ok (.iconst (-1), 1) := dk_2 (dk_at dksX11_rename_4 9 rfl rfl)
theorem dX11_rename_102 : decode cX11_rename 102 = .ok (.if_icmp .ne 7, 3) := dk_160 0 7 (dk_at dksX11_rename_4 10 rfl rfl)
theorem dX11_rename_105 : decode cX11_rename 105 = .ok (.iconst (-1), 1) := dk_2 (dk_at dksX11_rename_4 13 rfl rfl)
theorem dX11_rename_106 : decode cX11_rename 106 = .ok (.goto 10, 3) := dk_167 0 10 (dk_at dksX11_rename_4 14 rfl rfl)
theorem dX11_rename_109 : decode cX11_rename 109 = .ok (.aload_n 0, 1) := dk_42 (dk_at dksX11_rename_4 17 rfl rfl)
theorem dX11_rename_110 : decode cX11_rename 110 = .ok (.getfield 42, 3) := dk_180 0 42 (dk_at dksX11_rename_4 18 rfl rfl)
theorem dX11_rename_113 : decode cX11_rename 113 = .ok (.iload 10, 2) := dk_21 10 (dk_at dksX11_rename_4 21 rfl rfl)
theorem dX11_rename_115 : decode cX11_rename 115 = .ok (.iaload, 1) := dk_46 (dk_at dksX11_rename_4 23 rfl rfl)
theorem dX11_rename_116 : decode cX11_rename 116 = .ok (.istore 11, 2) := dk_54 11 (dk_at dksX11_rename_5 0 rfl rfl)
theorem dX11_rename_118 : decode cX11_rename 118 = .ok (.iload 11, 2) := dk_21 11 (dk_at dksX11_rename_5 2 rfl rfl)
theorem dX11_rename_120 : decode cX11_rename 120 = .ok (.iload 9, 2) := dk_21 9 (dk_at dksX11_rename_5 4 rfl rfl)
theorem dX11_rename_122 : decode cX11_rename 122 = .ok (.if_icmp .ne 5, 3) := dk_160 0 5 (dk_at dksX11_rename_5 6 rfl rfl)
theorem dX11_rename_125 : decode cX11_rename 125 = .ok (.iconst 0, 1) := dk_3 (dk_at dksX11_rename_5 9 rfl rfl)
theorem dX11_rename_126 : decode cX11_rename 126 = .ok (.ireturn, 1) := dk_172 (dk_at dksX11_rename_5 10 rfl rfl)
theorem dX11_rename_127 : decode cX11_rename 127 = .ok (.aload_n 0, 1) := dk_42 (dk_at dksX11_rename_5 11 rfl rfl)
theorem dX11_rename_128 : decode cX11_rename 128 = .ok (.getfield 26, 3) := dk_180 0 26 (dk_at dksX11_rename_5 12 rfl rfl)
theorem dX11_rename_131 : decode cX11_rename 131 = .ok (.aload_n 0, 1) := dk_42 (dk_at dksX11_rename_5 15 rfl rfl)
theorem dX11_rename_132 : decode cX11_rename 132 = .ok (.iconst 0, 1) := dk_3 (dk_at dksX11_rename_5 16 rfl rfl)
theorem dX11_rename_133 : decode cX11_rename 133 = .ok (.iload 9, 2) := dk_21 9 (dk_at dksX11_rename_5 17 rfl rfl)
theorem dX11_rename_135 : decode cX11_rename 135 = .ok (.invokevirtual 143, 3) := dk_182 0 143 (dk_at dksX11_rename_5 19 rfl rfl)
theorem dX11_rename_138 : decode cX11_rename 138 = .ok (.iaload, 1) := dk_46 (dk_at dksX11_rename_5 22 rfl rfl)
theorem dX11_rename_139 : decode cX11_rename 139 = .ok (.iconst 1, 1) := dk_4 (dk_at dksX11_rename_5 23 rfl rfl)
theorem dX11_rename_140 : decode cX11_rename 140 = .ok (.if_icmp .ne 7, 3) := dk_160 0 7 (dk_at dksX11_rename_6 0 rfl rfl)
theorem dX11_rename_143 : decode cX11_rename 143 = .ok (.iconst 1, 1) := dk_4 (dk_at dksX11_rename_6 3 rfl rfl)
theorem dX11_rename_144 : decode cX11_rename 144 = .ok (.goto 4, 3) := dk_167 0 4 (dk_at dksX11_rename_6 4 rfl rfl)
theorem dX11_rename_147 : decode cX11_rename 147 = .ok (.iconst 0, 1) := dk_3 (dk_at dksX11_rename_6 7 rfl rfl)
theorem dX11_rename_148 : decode cX11_rename 148 = .ok (.istore 12, 2) := dk_54 12 (dk_at dksX11_rename_6 8 rfl rfl)
theorem dX11_rename_150 : decode cX11_rename 150 = .ok (.iload 12, 2) := dk_21 12 (dk_at dksX11_rename_6 10 rfl rfl)
theorem dX11_rename_152 : decode cX11_rename 152 = .ok (.ifCond .eq 17, 3) := dk_153 0 17 (dk_at dksX11_rename_6 12 rfl rfl)
theorem dX11_rename_155 : decode cX11_rename 155 = .ok (.aload_n 0, 1) := dk_42 (dk_at dksX11_rename_6 15 rfl rfl)
theorem dX11_rename_156 : decode cX11_rename 156 = .ok (.iload 4, 2) := dk_21 4 (dk_at dksX11_rename_6 16 rfl rfl)
theorem dX11_rename_158 : decode cX11_rename 158 = .ok (.iload 9, 2) := dk_21 9 (dk_at dksX11_rename_6 18 rfl rfl)
theorem dX11_rename_160 : decode cX11_rename 160 = .ok (.invokevirtual 243, 3) := dk_182 0 243 (dk_at dksX11_rename_6 20 rfl rfl)
theorem dX11_rename_163 : decode cX11_rename 163 = .ok (.ifCond .eq 6, 3) := dk_153 0 6 (dk_at dksX11_rename_7 0 rfl rfl)
theorem dX11_rename_166 : decode cX11_rename 166 = .ok (.bipush (-9), 2) := dk_16 247 (dk_at dksX11_rename_7 3 rfl rfl)
theorem dX11_rename_168 : decode cX11_rename 168 = .ok (.ireturn, 1) := dk_172 (dk_at dksX11_rename_7 5 rfl rfl)
theorem dX11_rename_169 : decode cX11_rename 169 = .ok (.iload 11, 2) := dk_21 11 (dk_at dksX11_rename_7 6 rfl rfl)
theorem dX11_rename_171 : decode cX11_rename 171 = .ok (.iconst (-1), 1) := dk_2 (dk_at dksX11_rename_7 8 rfl rfl)
theorem dX11_rename_172 : decode cX11_rename 172 = .ok (.if_icmp .eq 87, 3) := dk_159 0 87 (dk_at dksX11_rename_7 9 rfl rfl)
theorem dX11_rename_175 : decode cX11_rename 175 = .ok (.aload_n 0, 1) := dk_42 (dk_at dksX11_rename_7 12 rfl rfl)
theorem dX11_rename_176 : decode cX11_rename 176 = .ok (.getfield 26, 3) := dk_180 0 26 (dk_at dksX11_rename_7 13 rfl rfl)
theorem dX11_rename_179 : decode cX11_rename 179 = .ok (.aload_n 0, 1) := dk_42 (dk_at dksX11_rename_7 16 rfl rfl)
theorem dX11_rename_180 : decode cX11_rename 180 = .ok (.iconst 0, 1) := dk_3 (dk_at dksX11_rename_7 17 rfl rfl)
theorem dX11_rename_181 : decode cX11_rename 181 = .ok (.iload 11, 2) := dk_21 11 (dk_at dksX11_rename_7 18 rfl rfl)
theorem dX11_rename_183 : decode cX11_rename 183 = .ok (.invokevirtual 143, 3) := dk_182 0 143 (dk_at dksX11_rename_7 20 rfl rfl)
theorem dX11_rename_186 : decode cX11_rename 186 = .ok (.iaload, 1) := dk_46 (dk_at dksX11_rename_7 23 rfl rfl)
theorem dX11_rename_187 : decode cX11_rename 187 = .ok (.iconst 1, 1) := dk_4 (dk_at dksX11_rename_8 0 rfl rfl)
theorem dX11_rename_188 : decode cX11_rename 188 = .ok (.if_icmp .ne 7, 3) := dk_160 0 7 (dk_at dksX11_rename_8 1 rfl rfl)
theorem dX11_rename_191 : decode cX11_rename 191 = .ok (.iconst 1, 1) := dk_4 (dk_at dksX11_rename_8 4 rfl rfl)
theorem dX11_rename_192 : decode cX11_rename 192 = .ok (.goto 4, 3) := dk_167 0 4 (dk_at dksX11_rename_8 5 rfl rfl)
theorem dX11_rename_195 : decode cX11_rename 195 = .ok (.iconst 0, 1) := dk_3 (dk_at dksX11_rename_8 8 rfl rfl)
theorem dX11_rename_196 : decode cX11_rename 196 = .ok (.istore 13, 2) := dk_54 13 (dk_at dksX11_rename_8 9 rfl rfl)
theorem dX11_rename_198 : decode cX11_rename 198 = .ok (.iload 12, 2) := dk_21 12 (dk_at dksX11_rename_8 11 rfl rfl)
theorem dX11_rename_200 : decode cX11_rename 200 = .ok (.ifCond .eq 13, 3) := dk_153 0 13 (dk_at dksX11_rename_8 13 rfl rfl)
theorem dX11_rename_203 : decode cX11_rename 203 = .ok (.iload 13, 2) := dk_21 13 (dk_at dksX11_rename_8 16 rfl rfl)
theorem dX11_rename_205 : decode cX11_rename 205 = .ok (.ifCond .ne 8, 3) := dk_154 0 8 (dk_at dksX11_rename_8 18 rfl rfl)
theorem dX11_rename_208 : decode cX11_rename 208 = .ok (.bipush (-6), 2) := dk_16 250 (dk_at dksX11_rename_8 21 rfl rfl)
theorem dX11_rename_210 : decode cX11_rename 210 = .ok (.goto 39, 3) := dk_167 0 39 (dk_at dksX11_rename_9 0 rfl rfl)
theorem dX11_rename_213 : decode cX11_rename 213 = .ok (.iload 12, 2) := dk_21 12 (dk_at dksX11_rename_9 3 rfl rfl)
theorem dX11_rename_215 : decode cX11_rename 215 = .ok (.ifCond .ne 13, 3) := dk_154 0 13 (dk_at dksX11_rename_9 5 rfl rfl)
theorem dX11_rename_218 : decode cX11_rename 218 = .ok (.iload 13, 2) := dk_21 13 (dk_at dksX11_rename_9 8 rfl rfl)
theorem dX11_rename_220 : decode cX11_rename 220 = .ok (.ifCond .eq 8, 3) := dk_153 0 8 (dk_at dksX11_rename_9 10 rfl rfl)
theorem dX11_rename_223 : decode cX11_rename 223 = .ok (.bipush (-7), 2) := dk_16 249 (dk_at dksX11_rename_9 13 rfl rfl)
theorem dX11_rename_225 : decode cX11_rename 225 = .ok (.goto 24, 3) := dk_167 0 24 (dk_at dksX11_rename_9 15 rfl rfl)
theorem dX11_rename_228 : decode cX11_rename 228 = .ok (.iload 13, 2) := dk_21 13 (dk_at dksX11_rename_9 18 rfl rfl)
theorem dX11_rename_230 : decode cX11_rename 230 = .ok (.ifCond .eq 18, 3) := dk_153 0 18 (dk_at dksX11_rename_9 20 rfl rfl)
theorem dX11_rename_233 : decode cX11_rename 233 = .ok (.aload_n 0, 1) := dk_42 (dk_at dksX11_rename_9 23 rfl rfl)
theorem dX11_rename_234 : decode cX11_rename 234 = .ok (.iconst 0, 1) := dk_3 (dk_at dksX11_rename_10 0 rfl rfl)
theorem dX11_rename_235 : decode cX11_rename 235 = .ok (.iload 11, 2) := dk_21 11 (dk_at dksX11_rename_10 1 rfl rfl)
theorem dX11_rename_237 : decode cX11_rename 237 = .ok (.invokevirtual 240, 3) := dk_182 0 240 (dk_at dksX11_rename_10 3 rfl rfl)
theorem dX11_rename_240 : decode cX11_rename 240 = .ok (.ifCond .le 8, 3) := dk_158 0 8 (dk_at dksX11_rename_10 6 rfl rfl)
theorem dX11_rename_243 : decode cX11_rename 243 = .ok (.bipush (-8), 2) := dk_16 248 (dk_at dksX11_rename_10 9 rfl rfl)
theorem dX11_rename_245 : decode cX11_rename 245 = .ok (.goto 4, 3) := dk_167 0 4 (dk_at dksX11_rename_10 11 rfl rfl)
theorem dX11_rename_248 : decode cX11_rename 248 = .ok (.iconst 0, 1) := dk_3 (dk_at dksX11_rename_10 14 rfl rfl)
theorem dX11_rename_249 : decode cX11_rename 249 = .ok (.istore 7, 2) := dk_54 7 (dk_at dksX11_rename_10 15 rfl rfl)
theorem dX11_rename_251 : decode cX11_rename 251 = .ok (.iload 7, 2) := dk_21 7 (dk_at dksX11_rename_10 17 rfl rfl)
theorem dX11_rename_253 : decode cX11_rename 253 = .ok (.ifCond .eq 6, 3) := dk_153 0 6 (dk_at dksX11_rename_10 19 rfl rfl)
theorem dX11_rename_256 : decode cX11_rename 256 = .ok (.iload 7, 2) := dk_21 7 (dk_at dksX11_rename_10 22 rfl rfl)
theorem dX11_rename_258 : decode cX11_rename 258 = .ok (.ireturn, 1) := dk_172 (dk_at dksX11_rename_11 0 rfl rfl)
theorem dX11_rename_259 : decode cX11_rename 259 = .ok (.aload_n 0, 1) := dk_42 (dk_at dksX11_rename_11 1 rfl rfl)
theorem dX11_rename_260 : decode cX11_rename 260 = .ok (.iconst 5, 1) := dk_8 (dk_at dksX11_rename_11 2 rfl rfl)
theorem dX11_rename_261 : decode cX11_rename 261 = .ok (.iload_n 1, 1) := dk_27 (dk_at dksX11_rename_11 3 rfl rfl)
theorem dX11_rename_262 : decode cX11_rename 262 = .ok (.iload 4, 2) := dk_21 4 (dk_at dksX11_rename_11 4 rfl rfl)
theorem dX11_rename_264 : decode cX11_rename 264 = .ok (.invokevirtual 223, 3) := dk_182 0 223 (dk_at dksX11_rename_11 6 rfl rfl)
theorem dX11_rename_267 : decode cX11_rename 267 = .ok (.istore 13, 2) := dk_54 13 (dk_at dksX11_rename_11 9 rfl rfl)
theorem dX11_rename_269 : decode cX11_rename 269 = .ok (.aload_n 0, 1) := dk_42 (dk_at dksX11_rename_11 11 rfl rfl)
theorem dX11_rename_270 : decode cX11_rename 270 = .ok (.getfield 96, 3) := dk_180 0 96 (dk_at dksX11_rename_11 12 rfl rfl)
theorem dX11_rename_273 : decode cX11_rename 273 = .ok (.iload 13, 2) := dk_21 13 (dk_at dksX11_rename_11 15 rfl rfl)
theorem dX11_rename_275 : decode cX11_rename 275 = .ok (.lload_n 2, 1) := dk_32 (dk_at dksX11_rename_11 17 rfl rfl)
theorem dX11_rename_276 : decode cX11_rename 276 = .ok (.lastore, 1) := dk_80 (dk_at dksX11_rename_11 18 rfl rfl)
theorem dX11_rename_277 : decode cX11_rename 277 = .ok (.aload_n 0, 1) := dk_42 (dk_at dksX11_rename_11 19 rfl rfl)
theorem dX11_rename_278 : decode cX11_rename 278 = .ok (.getfield 99, 3) := dk_180 0 99 (dk_at dksX11_rename_11 20 rfl rfl)
theorem dX11_rename_281 : decode cX11_rename 281 = .ok (.iload 13, 2) := dk_21 13 (dk_at dksX11_rename_12 0 rfl rfl)
theorem dX11_rename_283 : decode cX11_rename 283 = .ok (.lload 5, 2) := dk_22 5 (dk_at dksX11_rename_12 2 rfl rfl)
theorem dX11_rename_285 : decode cX11_rename 285 = .ok (.lastore, 1) := dk_80 (dk_at dksX11_rename_12 4 rfl rfl)
theorem dX11_rename_286 : decode cX11_rename 286 = .ok (.aload_n 0, 1) := dk_42 (dk_at dksX11_rename_12 5 rfl rfl)
theorem dX11_rename_287 : decode cX11_rename 287 = .ok (.getfield 92, 3) := dk_180 0 92 (dk_at dksX11_rename_12 6 rfl rfl)
theorem dX11_rename_290 : decode cX11_rename 290 = .ok (.iload 13, 2) := dk_21 13 (dk_at dksX11_rename_12 9 rfl rfl)
theorem dX11_rename_292 : decode cX11_rename 292 = .ok (.iload 11, 2) := dk_21 11 (dk_at dksX11_rename_12 11 rfl rfl)
theorem dX11_rename_294 : decode cX11_rename 294 = .ok (.iconst (-1), 1) := dk_2 (dk_at dksX11_rename_12 13 rfl rfl)
theorem dX11_rename_295 : decode cX11_rename 295 = .ok (.if_icmp .eq 32, 3) := dk_159 0 32 (dk_at dksX11_rename_12 14 rfl rfl)
theorem dX11_rename_298 : decode cX11_rename 298 = .ok (.iload 12, 2) := dk_21 12 (dk_at dksX11_rename_12 17 rfl rfl)
theorem dX11_rename_300 : decode cX11_rename 300 = .ok (.ifCond .ne 23, 3) := dk_154 0 23 (dk_at dksX11_rename_12 19 rfl rfl)
theorem dX11_rename_303 : decode cX11_rename 303 = .ok (.aload_n 0, 1) := dk_42 (dk_at dksX11_rename_12 22 rfl rfl)
theorem dX11_rename_304 : decode cX11_rename 304 = .ok (.iconst 0, 1) := dk_3 (dk_at dksX11_rename_12 23 rfl rfl)
theorem dX11_rename_305 : decode cX11_rename 305 = .ok (.iload 11, 2) := dk_21 11 (dk_at dksX11_rename_13 0 rfl rfl)
theorem dX11_rename_307 : decode cX11_rename 307 = .ok (.invokevirtual 233, 3) := dk_182 0 233 (dk_at dksX11_rename_13 2 rfl rfl)
theorem dX11_rename_310 : decode cX11_rename 310 = .ok (.iconst 1, 1) := dk_4 (dk_at dksX11_rename_13 5 rfl rfl)
theorem dX11_rename_311 : decode cX11_rename 311 = .ok (.if_icmp .ne 16, 3) := dk_160 0 16 (dk_at dksX11_rename_13 6 rfl rfl)
theorem dX11_rename_314 : decode cX11_rename 314 = .ok (.aload_n 0, 1) := dk_42 (dk_at dksX11_rename_13 9 rfl rfl)
theorem dX11_rename_315 : decode cX11_rename 315 = .ok (.iload 11, 2) := dk_21 11 (dk_at dksX11_rename_13 10 rfl rfl)
theorem dX11_rename_317 : decode cX11_rename 317 = .ok (.invokevirtual 236, 3) := dk_182 0 236 (dk_at dksX11_rename_13 12 rfl rfl)
theorem dX11_rename_320 : decode cX11_rename 320 = .ok (.ifCond .ne 7, 3) := dk_154 0 7 (dk_at dksX11_rename_13 15 rfl rfl)
theorem dX11_rename_323 : decode cX11_rename 323 = .ok (.iconst 1, 1) := dk_4 (dk_at dksX11_rename_13 18 rfl rfl)
theorem dX11_rename_324 : decode cX11_rename 324 = .ok (.goto 4, 3) := dk_167 0 4 (dk_at dksX11_rename_13 19 rfl rfl)
theorem dX11_rename_327 : decode cX11_rename 327 = .ok (.iconst 0, 1) := dk_3 (dk_at dksX11_rename_13 22 rfl rfl)
theorem dX11_rename_328 : decode cX11_rename 328 = .ok (.bastore, 1) := dk_84 (dk_at dksX11_rename_13 23 rfl rfl)
theorem dX11_rename_329 : decode cX11_rename 329 = .ok (.aload_n 0, 1) := dk_42 (dk_at dksX11_rename_14 0 rfl rfl)
theorem dX11_rename_330 : decode cX11_rename 330 = .ok (.iload_n 1, 1) := dk_27 (dk_at dksX11_rename_14 1 rfl rfl)
theorem dX11_rename_331 : decode cX11_rename 331 = .ok (.iload 4, 2) := dk_21 4 (dk_at dksX11_rename_14 2 rfl rfl)
theorem dX11_rename_333 : decode cX11_rename 333 = .ok (.if_icmp .ne 9, 3) := dk_160 0 9 (dk_at dksX11_rename_14 4 rfl rfl)
theorem dX11_rename_336 : decode cX11_rename 336 = .ok (.sipush 144, 3) := dk_17 0 144 (dk_at dksX11_rename_14 7 rfl rfl)
theorem dX11_rename_339 : decode cX11_rename 339 = .ok (.goto 6, 3) := dk_167 0 6 (dk_at dksX11_rename_14 10 rfl rfl)
theorem dX11_rename_342 : decode cX11_rename 342 = .ok (.sipush 192, 3) := dk_17 0 192 (dk_at dksX11_rename_14 13 rfl rfl)
theorem dX11_rename_345 : decode cX11_rename 345 = .ok (.iload 11, 2) := dk_21 11 (dk_at dksX11_rename_14 16 rfl rfl)
theorem dX11_rename_347 : decode cX11_rename 347 = .ok (.iconst (-1), 1) := dk_2 (dk_at dksX11_rename_14 18 rfl rfl)
theorem dX11_rename_348 : decode cX11_rename 348 = .ok (.if_icmp .ne 7, 3) := dk_160 0 7 (dk_at dksX11_rename_14 19 rfl rfl)
theorem dX11_rename_351 : decode cX11_rename 351 = .ok (.iconst 0, 1) := dk_3 (dk_at dksX11_rename_14 22 rfl rfl)
theorem dX11_rename_352 : decode cX11_rename 352 = .ok (.goto 5, 3) := dk_167 0 5 (dk_at dksX11_rename_15 0 rfl rfl)
theorem dX11_rename_355 : decode cX11_rename 355 = .ok (.bipush 48, 2) := dk_16 48 (dk_at dksX11_rename_15 3 rfl rfl)
theorem dX11_rename_357 : decode cX11_rename 357 = .ok (.iadd, 1) := dk_96 (dk_at dksX11_rename_15 5 rfl rfl)
theorem dX11_rename_358 : decode cX11_rename 358 = .ok (.invokevirtual 226, 3) := dk_182 0 226 (dk_at dksX11_rename_15 6 rfl rfl)
theorem dX11_rename_361 : decode cX11_rename 361 = .ok (.iload 11, 2) := dk_21 11 (dk_at dksX11_rename_15 9 rfl rfl)
theorem dX11_rename_363 : decode cX11_rename 363 = .ok (.iconst (-1), 1) := dk_2 (dk_at dksX11_rename_15 11 rfl rfl)
theorem dX11_rename_364 : decode cX11_rename 364 = .ok (.if_icmp .ne 7, 3) := dk_160 0 7 (dk_at dksX11_rename_15 12 rfl rfl)
theorem dX11_rename_367 : decode cX11_rename 367 = .ok (.iconst 0, 1) := dk_3 (dk_at dksX11_rename_15 15 rfl rfl)
theorem dX11_rename_368 : decode cX11_rename 368 = .ok (.goto 4, 3) := dk_167 0 4 (dk_at dksX11_rename_15 16 rfl rfl)
theorem dX11_rename_371 : decode cX11_rename 371 = .ok (.iconst 1, 1) := dk_4 (dk_at dksX11_rename_15 19 rfl rfl)
theorem dX11_rename_372 : decode cX11_rename 372 = .ok (.ireturn, 1) := dk_172 (dk_at dksX11_rename_15 20 rfl rfl)
abbrev cX11_isIn : ByteArray := prog_12_method_38_code
def yX11_isIn : MethodName := ⟨RX11, "isIn", "(II)Z"⟩
def dkwX11_isIn_3 : List UInt8 := [4, 167, 0, 4, 3, 172]
abbrev dktX11_isIn_3 : List UInt8 := dkwX11_isIn_3 ++ []
def dkwX11_isIn_2 : List UInt8 := [167, 0, 5, 21, 4, 54, 4, 132, 5, 1, 167, 255, 217, 21, 4, 62, 167, 255, 195, 29, 28, 160, 0, 7]
abbrev dktX11_isIn_2 : List UInt8 := dkwX11_isIn_2 ++ dktX11_isIn_3
def dkwX11_isIn_1 : List UInt8 := [3, 46, 162, 0, 34, 42, 180, 0, 42, 21, 5, 46, 29, 160, 0, 13, 42, 180, 0, 35, 21, 5, 46]
abbrev dktX11_isIn_1 : List UInt8 := dkwX11_isIn_1 ++ dktX11_isIn_2
def dkwX11_isIn_0 : List UInt8 := [27, 62, 29, 28, 159, 0, 62, 29, 4, 159, 0, 57, 4, 54, 4, 3, 54, 5, 21, 5, 42, 180, 0, 32]
abbrev dktX11_isIn_0 : List UInt8 := dkwX11_isIn_0 ++ dktX11_isIn_1
theorem dksX11_isIn_0 : cX11_isIn.data.toList.drop 0 = dktX11_isIn_0 := by decide +kernel
theorem dksX11_isIn_1 : cX11_isIn.data.toList.drop 24 = dktX11_isIn_1 := dk_seg dksX11_isIn_0 24 rfl rfl
theorem dksX11_isIn_2 : cX11_isIn.data.toList.drop 47 = dktX11_isIn_2 := dk_seg dksX11_isIn_1 23 rfl rfl
theorem dksX11_isIn_3 : cX11_isIn.data.toList.drop 71 = dktX11_isIn_3 := dk_seg dksX11_isIn_2 24 rfl rfl
theorem dX11_isIn_0 : decode cX11_isIn 0 = .ok (.iload_n 1, 1) := dk_27 (dk_at dksX11_isIn_0 0 rfl rfl)
theorem dX11_isIn_1 : decode cX11_isIn 1 = .ok (.istore_n 3, 1) := dk_62 (dk_at dksX11_isIn_0 1 rfl rfl)
theorem dX11_isIn_2 : decode cX11_isIn 2 = .ok (.iload_n 3, 1) := dk_29 (dk_at dksX11_isIn_0 2 rfl rfl)
theorem dX11_isIn_3 : decode cX11_isIn 3 = .ok (.iload_n 2, 1) := dk_28 (dk_at dksX11_isIn_0 3 rfl rfl)
theorem dX11_isIn_4 : decode cX11_isIn 4 = .ok (.if_icmp .eq 62, 3) := dk_159 0 62 (dk_at dksX11_isIn_0 4 rfl rfl)
theorem dX11_isIn_7 : decode cX11_isIn 7 = .ok (.iload_n 3, 1) := dk_29 (dk_at dksX11_isIn_0 7 rfl rfl)
theorem dX11_isIn_8 : decode cX11_isIn 8 = .ok (.iconst 1, 1) := dk_4 (dk_at dksX11_isIn_0 8 rfl rfl)
theorem dX11_isIn_9 : decode cX11_isIn 9 = .ok (.if_icmp .eq 57, 3) := dk_159 0 57 (dk_at dksX11_isIn_0 9 rfl rfl)
theorem dX11_isIn_12 : decode cX11_isIn 12 = .ok (.iconst 1, 1) := dk_4 (dk_at dksX11_isIn_0 12 rfl rfl)
theorem dX11_isIn_13 : decode cX11_isIn 13 = .ok (.istore 4, 2) := dk_54 4 (dk_at dksX11_isIn_0 13 rfl rfl)
theorem dX11_isIn_15 : decode cX11_isIn 15 = .ok (.iconst 0, 1) := dk_3 (dk_at dksX11_isIn_0 15 rfl rfl)
theorem dX11_isIn_16 : decode cX11_isIn 16 = .ok (.istore 5, 2) := dk_54 5 (dk_at dksX11_isIn_0 16 rfl rfl)
theorem dX11_isIn_18 : decode cX11_isIn 18 = .ok (.iload 5, 2) := dk_21 5 (dk_at dksX11_isIn_0 18 rfl rfl)
theorem dX11_isIn_20 : decode cX11_isIn 20 = .ok (.aload_n 0, 1) := dk_42 (dk_at dksX11_isIn_0 20 rfl rfl)
theorem dX11_isIn_21 : decode cX11_isIn 21 = .ok (.getfield 32, 3) := dk_180 0 32 (dk_at dksX11_isIn_0 21 rfl rfl)
theorem dX11_isIn_24 : decode cX11_isIn 24 = .ok (.iconst 0, 1) := dk_3 (dk_at dksX11_isIn_1 0 rfl rfl)
theorem dX11_isIn_25 : decode cX11_isIn 25 = .ok (.iaload, 1) := dk_46 (dk_at dksX11_isIn_1 1 rfl rfl)
theorem dX11_isIn_26 : decode cX11_isIn 26 = .ok (.if_icmp .ge 34, 3) := dk_162 0 34 (dk_at dksX11_isIn_1 2 rfl rfl)
theorem dX11_isIn_29 : decode cX11_isIn 29 = .ok (.aload_n 0, 1) := dk_42 (dk_at dksX11_isIn_1 5 rfl rfl)
theorem dX11_isIn_30 : decode cX11_isIn 30 = .ok (.getfield 42, 3) := dk_180 0 42 (dk_at dksX11_isIn_1 6 rfl rfl)
theorem dX11_isIn_33 : decode cX11_isIn 33 = .ok (.iload 5, 2) := dk_21 5 (dk_at dksX11_isIn_1 9 rfl rfl)
theorem dX11_isIn_35 : decode cX11_isIn 35 = .ok (.iaload, 1) := dk_46 (dk_at dksX11_isIn_1 11 rfl rfl)
theorem dX11_isIn_36 : decode cX11_isIn 36 = .ok (.iload_n 3, 1) := dk_29 (dk_at dksX11_isIn_1 12 rfl rfl)
theorem dX11_isIn_37 : decode cX11_isIn 37 = .ok (.if_icmp .ne 13, 3) := dk_160 0 13 (dk_at dksX11_isIn_1 13 rfl rfl)
theorem dX11_isIn_40 : decode cX11_isIn 40 = .ok (.aload_n 0, 1) := dk_42 (dk_at dksX11_isIn_1 16 rfl rfl)
theorem dX11_isIn_41 : decode cX11_isIn 41 = .ok (.getfield 35, 3) := dk_180 0 35 (dk_at dksX11_isIn_1 17 rfl rfl)
theorem dX11_isIn_44 : decode cX11_isIn 44 = .ok (.iload 5, 2) := dk_21 5 (dk_at dksX11_isIn_1 20 rfl rfl)
theorem dX11_isIn_46 : decode cX11_isIn 46 = .ok (.iaload, 1) := dk_46 (dk_at dksX11_isIn_1 22 rfl rfl)
theorem dX11_isIn_47 : decode cX11_isIn 47 = .ok (.goto 5, 3) := dk_167 0 5 (dk_at dksX11_isIn_2 0 rfl rfl)
theorem dX11_isIn_50 : decode cX11_isIn 50 = .ok (.iload 4, 2) := dk_21 4 (dk_at dksX11_isIn_2 3 rfl rfl)
theorem dX11_isIn_52 : decode cX11_isIn 52 = .ok (.istore 4, 2) := dk_54 4 (dk_at dksX11_isIn_2 5 rfl rfl)
theorem dX11_isIn_54 : decode cX11_isIn 54 = .ok (.iinc 5 1, 3) := dk_132 5 1 (dk_at dksX11_isIn_2 7 rfl rfl)
theorem dX11_isIn_57 : decode cX11_isIn 57 = .ok (.goto (-39), 3) := dk_167 255 217 (dk_at dksX11_isIn_2 10 rfl rfl)
theorem dX11_isIn_60 : decode cX11_isIn 60 = .ok (.iload 4, 2) := dk_21 4 (dk_at dksX11_isIn_2 13 rfl rfl)
theorem dX11_isIn_62 : decode cX11_isIn 62 = .ok (.istore_n 3, 1) := dk_62 (dk_at dksX11_isIn_2 15 rfl rfl)
theorem dX11_isIn_63 : decode cX11_isIn 63 = .ok (.goto (-61), 3) := dk_167 255 195 (dk_at dksX11_isIn_2 16 rfl rfl)
theorem dX11_isIn_66 : decode cX11_isIn 66 = .ok (.iload_n 3, 1) := dk_29 (dk_at dksX11_isIn_2 19 rfl rfl)
theorem dX11_isIn_67 : decode cX11_isIn 67 = .ok (.iload_n 2, 1) := dk_28 (dk_at dksX11_isIn_2 20 rfl rfl)
theorem dX11_isIn_68 : decode cX11_isIn 68 = .ok (.if_icmp .ne 7, 3) := dk_160 0 7 (dk_at dksX11_isIn_2 21 rfl rfl)
theorem dX11_isIn_71 : decode cX11_isIn 71 = .ok (.iconst 1, 1) := dk_4 (dk_at dksX11_isIn_3 0 rfl rfl)
theorem dX11_isIn_72 : decode cX11_isIn 72 = .ok (.goto 4, 3) := dk_167 0 4 (dk_at dksX11_isIn_3 1 rfl rfl)
theorem dX11_isIn_75 : decode cX11_isIn 75 = .ok (.iconst 0, 1) := dk_3 (dk_at dksX11_isIn_3 4 rfl rfl)
theorem dX11_isIn_76 : decode cX11_isIn 76 = .ok (.ireturn, 1) := dk_172 (dk_at dksX11_isIn_3 5 rfl rfl)
abbrev cX11_swap : ByteArray := prog_12_method_40_code
def yX11_swap : MethodName := ⟨RX11, "swap", "(IJIJ)I"⟩
def dkwX11_swap_9 : List UInt8 := [180, 0, 96, 21, 13, 32, 80, 42, 180, 0, 99, 21, 13, 22, 5, 80, 42, 16, 96, 182, 0, 226, 4, 172]
abbrev dktX11_swap_9 : List UInt8 := dkwX11_swap_9 ++ []
def dkwX11_swap_8 : List UInt8 := [54, 12, 21, 12, 153, 0, 6, 16, 247, 172, 42, 16, 9, 27, 21, 4, 182, 0, 223, 54, 13, 42]
abbrev dktX11_swap_8 : List UInt8 := dkwX11_swap_8 ++ dktX11_swap_9
def dkwX11_swap_7 : List UInt8 := [182, 0, 143, 46, 4, 160, 0, 17, 42, 27, 21, 11, 182, 0, 243, 153, 0, 7, 4, 167, 0, 4, 3]
abbrev dktX11_swap_7 : List UInt8 := dkwX11_swap_7 ++ dktX11_swap_8
def dkwX11_swap_6 : List UInt8 := [160, 0, 14, 42, 21, 4, 21, 10, 182, 0, 243, 154, 0, 29, 42, 180, 0, 26, 42, 3, 21, 11]
abbrev dktX11_swap_6 : List UInt8 := dkwX11_swap_6 ++ dktX11_swap_7
def dkwX11_swap_5 : List UInt8 := [21, 10, 21, 11, 160, 0, 5, 3, 172, 42, 180, 0, 26, 42, 3, 21, 10, 182, 0, 143, 46, 4]
abbrev dktX11_swap_5 : List UInt8 := dkwX11_swap_5 ++ dktX11_swap_6
def dkwX11_swap_4 : List UInt8 := [160, 0, 6, 16, 252, 172, 42, 180, 0, 42, 21, 8, 46, 54, 10, 42, 180, 0, 42, 21, 9, 46, 54, 11]
abbrev dktX11_swap_4 : List UInt8 := dkwX11_swap_4 ++ dktX11_swap_5
def dkwX11_swap_3 : List UInt8 := [54, 7, 21, 7, 153, 0, 6, 21, 7, 172, 42, 3, 21, 4, 22, 5, 182, 0, 162, 54, 9, 21, 9, 2]
abbrev dktX11_swap_3 : List UInt8 := dkwX11_swap_3 ++ dktX11_swap_4
def dkwX11_swap_2 : List UInt8 := [3, 27, 32, 182, 0, 162, 54, 8, 21, 8, 2, 160, 0, 6, 16, 252, 172, 42, 21, 4, 182, 0, 216]
abbrev dktX11_swap_2 : List UInt8 := dkwX11_swap_2 ++ dktX11_swap_3
def dkwX11_swap_1 : List UInt8 := [154, 0, 8, 16, 253, 167, 0, 8, 42, 27, 182, 0, 216, 54, 7, 21, 7, 153, 0, 6, 21, 7, 172, 42]
abbrev dktX11_swap_1 : List UInt8 := dkwX11_swap_1 ++ dktX11_swap_2
def dkwX11_swap_0 : List UInt8 := [42, 180, 0, 7, 154, 0, 6, 16, 254, 172, 32, 184, 0, 209, 153, 0, 11, 22, 5, 184, 0, 209]
abbrev dktX11_swap_0 : List UInt8 := dkwX11_swap_0 ++ dktX11_swap_1
theorem dksX11_swap_0 : cX11_swap.data.toList.drop 0 = dktX11_swap_0 := by decide +kernel
theorem dksX11_swap_1 : cX11_swap.data.toList.drop 22 = dktX11_swap_1 := dk_seg dksX11_swap_0 22 rfl rfl
theorem dksX11_swap_2 : cX11_swap.data.toList.drop 46 = dktX11_swap_2 := dk_seg dksX11_swap_1 24 rfl rfl
theorem dksX11_swap_3 : cX11_swap.data.toList.drop 69 = dktX11_swap_3 := dk_seg dksX11_swap_2 23 rfl rfl
theorem dksX11_swap_4 : cX11_swap.data.toList.drop 93 = dktX11_swap_4 := dk_seg dksX11_swap_3 24 rfl rfl
theorem dksX11_swap_5 : cX11_swap.data.toList.drop 117 = dktX11_swap_5 := dk_seg dksX11_swap_4 24 rfl rfl
theorem dksX11_swap_6 : cX11_swap.data.toList.drop 139 = dktX11_swap_6 := dk_seg dksX11_swap_5 22 rfl rfl
theorem dksX11_swap_7 : cX11_swap.data.toList.drop 161 = dktX11_swap_7 := dk_seg dksX11_swap_6 22 rfl rfl
theorem dksX11_swap_8 : cX11_swap.data.toList.drop 184 = dktX11_swap_8 := dk_seg dksX11_swap_7 23 rfl rfl
theorem dksX11_swap_9 : cX11_swap.data.toList.drop 206 = dktX11_swap_9 := dk_seg dksX11_swap_8 22 rfl rfl
theorem dX11_swap_0 : decode cX11_swap 0 = .ok (.aload_n 0, 1) := dk_42 (dk_at dksX11_swap_0 0 rfl rfl)
theorem dX11_swap_1 : decode cX11_swap 1 = .ok (.getfield 7, 3) := dk_180 0 7 (dk_at dksX11_swap_0 1 rfl rfl)
theorem dX11_swap_4 : decode cX11_swap 4 = .ok (.ifCond .ne 6, 3) := dk_154 0 6 (dk_at dksX11_swap_0 4 rfl rfl)
theorem dX11_swap_7 : decode cX11_swap 7 = .ok (.bipush (-2), 2) := dk_16 254 (dk_at dksX11_swap_0 7 rfl rfl)
theorem dX11_swap_9 : decode cX11_swap 9 = .ok (.ireturn, 1) := dk_172 (dk_at dksX11_swap_0 9 rfl rfl)
theorem dX11_swap_10 : decode cX11_swap 10 = .ok (.lload_n 2, 1) := dk_32 (dk_at dksX11_swap_0 10 rfl rfl)
theorem dX11_swap_11 : decode cX11_swap 11 = .ok (.invokestatic 209, 3) := dk_184 0 209 (dk_at dksX11_swap_0 11 rfl rfl)
theorem dX11_swap_14 : decode cX11_swap 14 = .ok (.ifCond .eq 11, 3) := dk_153 0 11 (dk_at dksX11_swap_0 14 rfl rfl)
theorem dX11_swap_17 : decode cX11_swap 17 = .ok (.lload 5, 2) := dk_22 5 (dk_at dksX11_swap_0 17 rfl rfl)
theorem dX11_swap_19 : decode cX11_swap 19 = .ok (.invokestatic 209, 3) := dk_184 0 209 (dk_at dksX11_swap_0 19 rfl rfl)
theorem dX11_swap_22 : decode cX11_swap 22 = .ok (.ifCond .ne 8, 3) := dk_154 0 8 (dk_at dksX11_swap_1 0 rfl rfl)
theorem dX11_swap_25 : decode cX11_swap 25 = .ok (.bipush (-3), 2) := dk_16 253 (dk_at dksX11_swap_1 3 rfl rfl)
theorem dX11_swap_27 : decode cX11_swap 27 = .ok (.goto 8, 3) := dk_167 0 8 (dk_at dksX11_swap_1 5 rfl rfl)
theorem dX11_swap_30 : decode cX11_swap 30 = .ok (.aload_n 0, 1) := dk_42 (dk_at dksX11_swap_1 8 rfl rfl)
theorem dX11_swap_31 : decode cX11_swap 31 = .ok (.iload_n 1, 1) := dk_27 (dk_at dksX11_swap_1 9 rfl rfl)
theorem dX11_swap_32 : decode cX11_swap 32 = .ok (.invokevirtual 216, 3) := dk_182 0 216 (dk_at dksX11_swap_1 10 rfl rfl)
theorem dX11_swap_35 : decode cX11_swap 35 = .ok (.istore 7, 2) := dk_54 7 (dk_at dksX11_swap_1 13 rfl rfl)
theorem dX11_swap_37 : decode cX11_swap 37 = .ok (.iload 7, 2) := dk_21 7 (dk_at dksX11_swap_1 15 rfl rfl)
theorem dX11_swap_39 : decode cX11_swap 39 = .ok (.ifCond .eq 6, 3) := dk_153 0 6 (dk_at dksX11_swap_1 17 rfl rfl)
theorem dX11_swap_42 : decode cX11_swap 42 = .ok (.iload 7, 2) := dk_21 7 (dk_at dksX11_swap_1 20 rfl rfl)
theorem dX11_swap_44 : decode cX11_swap 44 = .ok (.ireturn, 1) := dk_172 (dk_at dksX11_swap_1 22 rfl rfl)
theorem dX11_swap_45 : decode cX11_swap 45 = .ok (.aload_n 0, 1) := dk_42 (dk_at dksX11_swap_1 23 rfl rfl)
theorem dX11_swap_46 : decode cX11_swap 46 = .ok (.iconst 0, 1) := dk_3 (dk_at dksX11_swap_2 0 rfl rfl)
theorem dX11_swap_47 : decode cX11_swap 47 = .ok (.iload_n 1, 1) := dk_27 (dk_at dksX11_swap_2 1 rfl rfl)
theorem dX11_swap_48 : decode cX11_swap 48 = .ok (.lload_n 2, 1) := dk_32 (dk_at dksX11_swap_2 2 rfl rfl)
theorem dX11_swap_49 : decode cX11_swap 49 = .ok (.invokevirtual 162, 3) := dk_182 0 162 (dk_at dksX11_swap_2 3 rfl rfl)
theorem dX11_swap_52 : decode cX11_swap 52 = .ok (.istore 8, 2) := dk_54 8 (dk_at dksX11_swap_2 6 rfl rfl)
theorem dX11_swap_54 : decode cX11_swap 54 = .ok (.iload 8, 2) := dk_21 8 (dk_at dksX11_swap_2 8 rfl rfl)
theorem dX11_swap_56 : decode cX11_swap 56 = .ok (.iconst (-1), 1) := dk_2 (dk_at dksX11_swap_2 10 rfl rfl)
theorem dX11_swap_57 : decode cX11_swap 57 = .ok (.if_icmp .ne 6, 3) := dk_160 0 6 (dk_at dksX11_swap_2 11 rfl rfl)
theorem dX11_swap_60 : decode cX11_swap 60 = .ok (.bipush (-4), 2) := dk_16 252 (dk_at dksX11_swap_2 14 rfl rfl)
theorem dX11_swap_62 : decode cX11_swap 62 = .ok (.ireturn, 1) := dk_172 (dk_at dksX11_swap_2 16 rfl rfl)
theorem dX11_swap_63 : decode cX11_swap 63 = .ok (.aload_n 0, 1) := dk_42 (dk_at dksX11_swap_2 17 rfl rfl)
theorem dX11_swap_64 : decode cX11_swap 64 = .ok (.iload 4, 2) := dk_21 4 (dk_at dksX11_swap_2 18 rfl rfl)
theorem dX11_swap_66 : decode cX11_swap 66 = .ok (.invokevirtual 216, 3) := dk_182 0 216 (dk_at dksX11_swap_2 20 rfl rfl)
theorem dX11_swap_69 : decode cX11_swap 69 = .ok (.istore 7, 2) := dk_54 7 (dk_at dksX11_swap_3 0 rfl rfl)
theorem dX11_swap_71 : decode cX11_swap 71 = .ok (.iload 7, 2) := dk_21 7 (dk_at dksX11_swap_3 2 rfl rfl)
theorem dX11_swap_73 : decode cX11_swap 73 = .ok (.ifCond .eq 6, 3) := dk_153 0 6 (dk_at dksX11_swap_3 4 rfl rfl)
theorem dX11_swap_76 : decode cX11_swap 76 = .ok (.iload 7, 2) := dk_21 7 (dk_at dksX11_swap_3 7 rfl rfl)
theorem dX11_swap_78 : decode cX11_swap 78 = .ok (.ireturn, 1) := dk_172 (dk_at dksX11_swap_3 9 rfl rfl)
theorem dX11_swap_79 : decode cX11_swap 79 = .ok (.aload_n 0, 1) := dk_42 (dk_at dksX11_swap_3 10 rfl rfl)
theorem dX11_swap_80 : decode cX11_swap 80 = .ok (.iconst 0, 1) := dk_3 (dk_at dksX11_swap_3 11 rfl rfl)
theorem dX11_swap_81 : decode cX11_swap 81 = .ok (.iload 4, 2) := dk_21 4 (dk_at dksX11_swap_3 12 rfl rfl)
theorem dX11_swap_83 : decode cX11_swap 83 = .ok (.lload 5, 2) := dk_22 5 (dk_at dksX11_swap_3 14 rfl rfl)
theorem dX11_swap_85 : decode cX11_swap 85 = .ok (.invokevirtual 162, 3) := dk_182 0 162 (dk_at dksX11_swap_3 16 rfl rfl)
theorem dX11_swap_88 : decode cX11_swap 88 = .ok (.istore 9, 2) := dk_54 9 (dk_at dksX11_swap_3 19 rfl rfl)
theorem dX11_swap_90 : decode cX11_swap 90 = .ok (.iload 9, 2) := dk_21 9 (dk_at dksX11_swap_3 21 rfl rfl)
theorem dX11_swap_92 : decode cX11_swap 92 = .ok (.iconst (-1), 1) := dk_2 (dk_at dksX11_swap_3 23 rfl rfl)
theorem dX11_swap_93 : decode cX11_swap 93 = .ok (.if_icmp .ne 6, 3) := dk_160 0 6 (dk_at dksX11_swap_4 0 rfl rfl)
theorem dX11_swap_96 : decode cX11_swap 96 = .ok (.bipush (-4), 2) := dk_16 252 (dk_at dksX11_swap_4 3 rfl rfl)
theorem dX11_swap_98 : decode cX11_swap 98 = .ok (.ireturn, 1) := dk_172 (dk_at dksX11_swap_4 5 rfl rfl)
theorem dX11_swap_99 : decode cX11_swap 99 = .ok (.aload_n 0, 1) := dk_42 (dk_at dksX11_swap_4 6 rfl rfl)
theorem dX11_swap_100 : decode cX11_swap 100 = .ok (.getfield 42, 3) := dk_180 0 42 (dk_at dksX11_swap_4 7 rfl rfl)
theorem dX11_swap_103 : decode cX11_swap 103 = .ok (.iload 8, 2) := dk_21 8 (dk_at dksX11_swap_4 10 rfl rfl)
theorem dX11_swap_105 : decode cX11_swap 105 = .ok (.iaload, 1) := dk_46 (dk_at dksX11_swap_4 12 rfl rfl)
theorem dX11_swap_106 : decode cX11_swap 106 = .ok (.istore 10, 2) := dk_54 10 (dk_at dksX11_swap_4 13 rfl rfl)
theorem dX11_swap_108 : decode cX11_swap 108 = .ok (.aload_n 0, 1) := dk_42 (dk_at dksX11_swap_4 15 rfl rfl)
theorem dX11_swap_109 : decode cX11_swap 109 = .ok (.getfield 42, 3) := dk_180 0 42 (dk_at dksX11_swap_4 16 rfl rfl)
theorem dX11_swap_112 : decode cX11_swap 112 = .ok (.iload 9, 2) := dk_21 9 (dk_at dksX11_swap_4 19 rfl rfl)
theorem dX11_swap_114 : decode cX11_swap 114 = .ok (.iaload, 1) := dk_46 (dk_at dksX11_swap_4 21 rfl rfl)
theorem dX11_swap_115 : decode cX11_swap 115 = .ok (.istore 11, 2) := dk_54 11 (dk_at dksX11_swap_4 22 rfl rfl)
theorem dX11_swap_117 : decode cX11_swap 117 = .ok (.iload 10, 2) := dk_21 10 (dk_at dksX11_swap_5 0 rfl rfl)
theorem dX11_swap_119 : decode cX11_swap 119 = .ok (.iload 11, 2) := dk_21 11 (dk_at dksX11_swap_5 2 rfl rfl)
theorem dX11_swap_121 : decode cX11_swap 121 = .ok (.if_icmp .ne 5, 3) := dk_160 0 5 (dk_at dksX11_swap_5 4 rfl rfl)
theorem dX11_swap_124 : decode cX11_swap 124 = .ok (.iconst 0, 1) := dk_3 (dk_at dksX11_swap_5 7 rfl rfl)
theorem dX11_swap_125 : decode cX11_swap 125 = .ok (.ireturn, 1) := dk_172 (dk_at dksX11_swap_5 8 rfl rfl)
theorem dX11_swap_126 : decode cX11_swap 126 = .ok (.aload_n 0, 1) := dk_42 (dk_at dksX11_swap_5 9 rfl rfl)
theorem dX11_swap_127 : decode cX11_swap 127 = .ok (.getfield 26, 3) := dk_180 0 26 (dk_at dksX11_swap_5 10 rfl rfl)
theorem dX11_swap_130 : decode cX11_swap 130 = .ok (.aload_n 0, 1) := dk_42 (dk_at dksX11_swap_5 13 rfl rfl)
theorem dX11_swap_131 : decode cX11_swap 131 = .ok (.iconst 0, 1) := dk_3 (dk_at dksX11_swap_5 14 rfl rfl)
theorem dX11_swap_132 : decode cX11_swap 132 = .ok (.iload 10, 2) := dk_21 10 (dk_at dksX11_swap_5 15 rfl rfl)
theorem dX11_swap_134 : decode cX11_swap 134 = .ok (.invokevirtual 143, 3) := dk_182 0 143 (dk_at dksX11_swap_5 17 rfl rfl)
theorem dX11_swap_137 : decode cX11_swap 137 = .ok (.iaload, 1) := dk_46 (dk_at dksX11_swap_5 20 rfl rfl)
theorem dX11_swap_138 : decode cX11_swap 138 = .ok (.iconst 1, 1) := dk_4 (dk_at dksX11_swap_5 21 rfl rfl)
theorem dX11_swap_139 : decode cX11_swap 139 = .ok (.if_icmp .ne 14, 3) := dk_160 0 14 (dk_at dksX11_swap_6 0 rfl rfl)
theorem dX11_swap_142 : decode cX11_swap 142 = .ok (.aload_n 0, 1) := dk_42 (dk_at dksX11_swap_6 3 rfl rfl)
theorem dX11_swap_143 : decode cX11_swap 143 = .ok (.iload 4, 2) := dk_21 4 (dk_at dksX11_swap_6 4 rfl rfl)
theorem dX11_swap_145 : decode cX11_swap 145 = .ok (.iload 10, 2) := dk_21 10 (dk_at dksX11_swap_6 6 rfl rfl)
theorem dX11_swap_147 : decode cX11_swap 147 = .ok (.invokevirtual 243, 3) := dk_182 0 243 (dk_at dksX11_swap_6 8 rfl rfl)
theorem dX11_swap_150 : decode cX11_swap 150 = .ok (.ifCond .ne 29, 3) := dk_154 0 29 (dk_at dksX11_swap_6 11 rfl rfl)
theorem dX11_swap_153 : decode cX11_swap 153 = .ok (.aload_n 0, 1) := dk_42 (dk_at dksX11_swap_6 14 rfl rfl)
theorem dX11_swap_154 : decode cX11_swap 154 = .ok (.getfield 26, 3) := dk_180 0 26 (dk_at dksX11_swap_6 15 rfl rfl)
theorem dX11_swap_157 : decode cX11_swap 157 = .ok (.aload_n 0, 1) := dk_42 (dk_at dksX11_swap_6 18 rfl rfl)
theorem dX11_swap_158 : decode cX11_swap 158 = .ok (.iconst 0, 1) := dk_3 (dk_at dksX11_swap_6 19 rfl rfl)
theorem dX11_swap_159 : decode cX11_swap 159 = .ok (.iload 11, 2) := dk_21 11 (dk_at dksX11_swap_6 20 rfl rfl)
theorem dX11_swap_161 : decode cX11_swap 161 = .ok (.invokevirtual 143, 3) := dk_182 0 143 (dk_at dksX11_swap_7 0 rfl rfl)
theorem dX11_swap_164 : decode cX11_swap 164 = .ok (.iaload, 1) := dk_46 (dk_at dksX11_swap_7 3 rfl rfl)
theorem dX11_swap_165 : decode cX11_swap 165 = .ok (.iconst 1, 1) := dk_4 (dk_at dksX11_swap_7 4 rfl rfl)
theorem dX11_swap_166 : decode cX11_swap 166 = .ok (.if_icmp .ne 17, 3) := dk_160 0 17 (dk_at dksX11_swap_7 5 rfl rfl)
theorem dX11_swap_169 : decode cX11_swap 169 = .ok (.aload_n 0, 1) := dk_42 (dk_at dksX11_swap_7 8 rfl rfl)
theorem dX11_swap_170 : decode cX11_swap 170 = .ok (.iload_n 1, 1) := dk_27 (dk_at dksX11_swap_7 9 rfl rfl)
theorem dX11_swap_171 : decode cX11_swap 171 = .ok (.iload 11, 2) := dk_21 11 (dk_at dksX11_swap_7 10 rfl rfl)
theorem dX11_swap_173 : decode cX11_swap 173 = .ok (.invokevirtual 243, 3) := dk_182 0 243 (dk_at dksX11_swap_7 12 rfl rfl)
theorem dX11_swap_176 : decode cX11_swap 176 = .ok (.ifCond .eq 7, 3) := dk_153 0 7 (dk_at dksX11_swap_7 15 rfl rfl)
theorem dX11_swap_179 : decode cX11_swap 179 = .ok (.iconst 1, 1) := dk_4 (dk_at dksX11_swap_7 18 rfl rfl)
theorem dX11_swap_180 : decode cX11_swap 180 = .ok (.goto 4, 3) := dk_167 0 4 (dk_at dksX11_swap_7 19 rfl rfl)
theorem dX11_swap_183 : decode cX11_swap 183 = .ok (.iconst 0, 1) := dk_3 (dk_at dksX11_swap_7 22 rfl rfl)
theorem dX11_swap_184 : decode cX11_swap 184 = .ok (.istore 12, 2) := dk_54 12 (dk_at dksX11_swap_8 0 rfl rfl)
theorem dX11_swap_186 : decode cX11_swap 186 = .ok (.iload 12, 2) := dk_21 12 (dk_at dksX11_swap_8 2 rfl rfl)
theorem dX11_swap_188 : decode cX11_swap 188 = .ok (.ifCond .eq 6, 3) := dk_153 0 6 (dk_at dksX11_swap_8 4 rfl rfl)
theorem dX11_swap_191 : decode cX11_swap 191 = .ok (.bipush (-9), 2) := dk_16 247 (dk_at dksX11_swap_8 7 rfl rfl)
theorem dX11_swap_193 : decode cX11_swap 193 = .ok (.ireturn, 1) := dk_172 (dk_at dksX11_swap_8 9 rfl rfl)
theorem dX11_swap_194 : decode cX11_swap 194 = .ok (.aload_n 0, 1) := dk_42 (dk_at dksX11_swap_8 10 rfl rfl)
theorem dX11_swap_195 : decode cX11_swap 195 = .ok (.bipush 9, 2) := dk_16 9 (dk_at dksX11_swap_8 11 rfl rfl)
theorem dX11_swap_197 : decode cX11_swap 197 = .ok (.iload_n 1, 1) := dk_27 (dk_at dksX11_swap_8 13 rfl rfl)
theorem dX11_swap_198 : decode cX11_swap 198 = .ok (.iload 4, 2) := dk_21 4 (dk_at dksX11_swap_8 14 rfl rfl)
theorem dX11_swap_200 : decode cX11_swap 200 = .ok (.invokevirtual 223, 3) := dk_182 0 223 (dk_at dksX11_swap_8 16 rfl rfl)
theorem dX11_swap_203 : decode cX11_swap 203 = .ok (.istore 13, 2) := dk_54 13 (dk_at dksX11_swap_8 19 rfl rfl)
theorem dX11_swap_205 : decode cX11_swap 205 = .ok (.aload_n 0, 1) := dk_42 (dk_at dksX11_swap_8 21 rfl rfl)
theorem dX11_swap_206 : decode cX11_swap 206 = .ok (.getfield 96, 3) := dk_180 0 96 (dk_at dksX11_swap_9 0 rfl rfl)
theorem dX11_swap_209 : decode cX11_swap 209 = .ok (.iload 13, 2) := dk_21 13 (dk_at dksX11_swap_9 3 rfl rfl)
theorem dX11_swap_211 : decode cX11_swap 211 = .ok (.lload_n 2, 1) := dk_32 (dk_at dksX11_swap_9 5 rfl rfl)
theorem dX11_swap_212 : decode cX11_swap 212 = .ok (.lastore, 1) := dk_80 (dk_at dksX11_swap_9 6 rfl rfl)
theorem dX11_swap_213 : decode cX11_swap 213 = .ok (.aload_n 0, 1) := dk_42 (dk_at dksX11_swap_9 7 rfl rfl)
theorem dX11_swap_214 : decode cX11_swap 214 = .ok (.getfield 99, 3) := dk_180 0 99 (dk_at dksX11_swap_9 8 rfl rfl)
theorem dX11_swap_217 : decode cX11_swap 217 = .ok (.iload 13, 2) := dk_21 13 (dk_at dksX11_swap_9 11 rfl rfl)
theorem dX11_swap_219 : decode cX11_swap 219 = .ok (.lload 5, 2) := dk_22 5 (dk_at dksX11_swap_9 13 rfl rfl)
theorem dX11_swap_221 : decode cX11_swap 221 = .ok (.lastore, 1) := dk_80 (dk_at dksX11_swap_9 15 rfl rfl)
theorem dX11_swap_222 : decode cX11_swap 222 = .ok (.aload_n 0, 1) := dk_42 (dk_at dksX11_swap_9 16 rfl rfl)
theorem dX11_swap_223 : decode cX11_swap 223 = .ok (.bipush 96, 2) := dk_16 96 (dk_at dksX11_swap_9 17 rfl rfl)
theorem dX11_swap_225 : decode cX11_swap 225 = .ok (.invokevirtual 226, 3) := dk_182 0 226 (dk_at dksX11_swap_9 19 rfl rfl)
theorem dX11_swap_228 : decode cX11_swap 228 = .ok (.iconst 1, 1) := dk_4 (dk_at dksX11_swap_9 22 rfl rfl)
theorem dX11_swap_229 : decode cX11_swap 229 = .ok (.ireturn, 1) := dk_172 (dk_at dksX11_swap_9 23 rfl rfl)
abbrev cX11_look : ByteArray := prog_12_method_41_code
def yX11_look : MethodName := ⟨RX11, "look", "(IJ)I"⟩
def dkwX11_look_2 : List UInt8 := [2, 160, 0, 8, 16, 252, 167, 0, 10, 42, 180, 0, 42, 21, 5, 46, 172]
abbrev dktX11_look_2 : List UInt8 := dkwX11_look_2 ++ []
def dkwX11_look_1 : List UInt8 := [182, 0, 216, 54, 4, 21, 4, 153, 0, 6, 21, 4, 172, 42, 3, 27, 32, 182, 0, 162, 54, 5, 21, 5]
abbrev dktX11_look_1 : List UInt8 := dkwX11_look_1 ++ dktX11_look_2
def dkwX11_look_0 : List UInt8 := [42, 180, 0, 7, 154, 0, 6, 16, 254, 172, 32, 184, 0, 209, 154, 0, 8, 16, 253, 167, 0, 8, 42, 27]
abbrev dktX11_look_0 : List UInt8 := dkwX11_look_0 ++ dktX11_look_1
theorem dksX11_look_0 : cX11_look.data.toList.drop 0 = dktX11_look_0 := by decide +kernel
theorem dksX11_look_1 : cX11_look.data.toList.drop 24 = dktX11_look_1 := dk_seg dksX11_look_0 24 rfl rfl
theorem dksX11_look_2 : cX11_look.data.toList.drop 48 = dktX11_look_2 := dk_seg dksX11_look_1 24 rfl rfl
theorem dX11_look_0 : decode cX11_look 0 = .ok (.aload_n 0, 1) := dk_42 (dk_at dksX11_look_0 0 rfl rfl)
theorem dX11_look_1 : decode cX11_look 1 = .ok (.getfield 7, 3) := dk_180 0 7 (dk_at dksX11_look_0 1 rfl rfl)
theorem dX11_look_4 : decode cX11_look 4 = .ok (.ifCond .ne 6, 3) := dk_154 0 6 (dk_at dksX11_look_0 4 rfl rfl)
theorem dX11_look_7 : decode cX11_look 7 = .ok (.bipush (-2), 2) := dk_16 254 (dk_at dksX11_look_0 7 rfl rfl)
theorem dX11_look_9 : decode cX11_look 9 = .ok (.ireturn, 1) := dk_172 (dk_at dksX11_look_0 9 rfl rfl)
theorem dX11_look_10 : decode cX11_look 10 = .ok (.lload_n 2, 1) := dk_32 (dk_at dksX11_look_0 10 rfl rfl)
theorem dX11_look_11 : decode cX11_look 11 = .ok (.invokestatic 209, 3) := dk_184 0 209 (dk_at dksX11_look_0 11 rfl rfl)
theorem dX11_look_14 : decode cX11_look 14 = .ok (.ifCond .ne 8, 3) := dk_154 0 8 (dk_at dksX11_look_0 14 rfl rfl)
theorem dX11_look_17 : decode cX11_look 17 = .ok (.bipush (-3), 2) := dk_16 253 (dk_at dksX11_look_0 17 rfl rfl)
theorem dX11_look_19 : decode cX11_look 19 = .ok (.goto 8, 3) := dk_167 0 8 (dk_at dksX11_look_0 19 rfl rfl)
theorem dX11_look_22 : decode cX11_look 22 = .ok (.aload_n 0, 1) := dk_42 (dk_at dksX11_look_0 22 rfl rfl)
theorem dX11_look_23 : decode cX11_look 23 = .ok (.iload_n 1, 1) := dk_27 (dk_at dksX11_look_0 23 rfl rfl)
theorem dX11_look_24 : decode cX11_look 24 = .ok (.invokevirtual 216, 3) := dk_182 0 216 (dk_at dksX11_look_1 0 rfl rfl)
theorem dX11_look_27 : decode cX11_look 27 = .ok (.istore 4, 2) := dk_54 4 (dk_at dksX11_look_1 3 rfl rfl)
theorem dX11_look_29 : decode cX11_look 29 = .ok (.iload 4, 2) := dk_21 4 (dk_at dksX11_look_1 5 rfl rfl)
theorem dX11_look_31 : decode cX11_look 31 = .ok (.ifCond .eq 6, 3) := dk_153 0 6 (dk_at dksX11_look_1 7 rfl rfl)
theorem dX11_look_34 : decode cX11_look 34 = .ok (.iload 4, 2) := dk_21 4 (dk_at dksX11_look_1 10 rfl rfl)
theorem dX11_look_36 : decode cX11_look 36 = .ok (.ireturn, 1) := dk_172 (dk_at dksX11_look_1 12 rfl rfl)
theorem dX11_look_37 : decode cX11_look 37 = .ok (.aload_n 0, 1) := dk_42 (dk_at dksX11_look_1 13 rfl rfl)
theorem dX11_look_38 : decode cX11_look 38 = .ok (.iconst 0, 1) := dk_3 (dk_at dksX11_look_1 14 rfl rfl)
theorem dX11_look_39 : decode cX11_look 39 = .ok (.iload_n 1, 1) := dk_27 (dk_at dksX11_look_1 15 rfl rfl)
theorem dX11_look_40 : decode cX11_look 40 = .ok (.lload_n 2, 1) := dk_32 (dk_at dksX11_look_1 16 rfl rfl)
theorem dX11_look_41 : decode cX11_look 41 = .ok (.invokevirtual 162, 3) := dk_182 0 162 (dk_at dksX11_look_1 17 rfl rfl)
theorem dX11_look_44 : decode cX11_look 44 = .ok (.istore 5, 2) := dk_54 5 (dk_at dksX11_look_1 20 rfl rfl)
theorem dX11_look_46 : decode cX11_look 46 = .ok (.iload 5, 2) := dk_21 5 (dk_at dksX11_look_1 22 rfl rfl)
theorem dX11_look_48 : decode cX11_look 48 = .ok (.iconst (-1), 1) := dk_2 (dk_at dksX11_look_2 0 rfl rfl)
theorem dX11_look_49 : decode cX11_look 49 = .ok (.if_icmp .ne 8, 3) := dk_160 0 8 (dk_at dksX11_look_2 1 rfl rfl)
theorem dX11_look_52 : decode cX11_look 52 = .ok (.bipush (-4), 2) := dk_16 252 (dk_at dksX11_look_2 4 rfl rfl)
theorem dX11_look_54 : decode cX11_look 54 = .ok (.goto 10, 3) := dk_167 0 10 (dk_at dksX11_look_2 6 rfl rfl)
theorem dX11_look_57 : decode cX11_look 57 = .ok (.aload_n 0, 1) := dk_42 (dk_at dksX11_look_2 9 rfl rfl)
theorem dX11_look_58 : decode cX11_look 58 = .ok (.getfield 42, 3) := dk_180 0 42 (dk_at dksX11_look_2 10 rfl rfl)
theorem dX11_look_61 : decode cX11_look 61 = .ok (.iload 5, 2) := dk_21 5 (dk_at dksX11_look_2 13 rfl rfl)
theorem dX11_look_63 : decode cX11_look 63 = .ok (.iaload, 1) := dk_46 (dk_at dksX11_look_2 15 rfl rfl)
theorem dX11_look_64 : decode cX11_look 64 = .ok (.ireturn, 1) := dk_172 (dk_at dksX11_look_2 16 rfl rfl)
abbrev cX11_list : ByteArray := prog_12_method_42_code
def yX11_list : MethodName := ⟨RX11, "list", "(II)J"⟩
def dkwX11_list_6 : List UInt8 := [66, 132, 5, 1, 167, 255, 138, 33, 173]
abbrev dktX11_list_6 : List UInt8 := dkwX11_list_6 ++ []
def dkwX11_list_5 : List UInt8 := [21, 5, 46, 27, 160, 0, 19, 21, 6, 28, 160, 0, 13, 42, 180, 0, 38, 21, 5, 47, 167, 0, 4, 33]
abbrev dktX11_list_5 : List UInt8 := dkwX11_list_5 ++ dktX11_list_6
def dkwX11_list_4 : List UInt8 := [184, 0, 247, 153, 0, 7, 4, 167, 0, 4, 3, 96, 54, 6, 132, 7, 1, 167, 255, 190, 42, 180, 0, 35]
abbrev dktX11_list_4 : List UInt8 := dkwX11_list_4 ++ dktX11_list_5
def dkwX11_list_3 : List UInt8 := [180, 0, 35, 21, 7, 46, 27, 160, 0, 27, 42, 180, 0, 38, 21, 7, 47, 42, 180, 0, 38, 21, 5, 47]
abbrev dktX11_list_3 : List UInt8 := dkwX11_list_3 ++ dktX11_list_4
def dkwX11_list_2 : List UInt8 := [180, 0, 32, 3, 46, 162, 0, 61, 42, 180, 0, 35, 21, 5, 46, 27, 160, 0, 50, 21, 6, 42]
abbrev dktX11_list_2 : List UInt8 := dkwX11_list_2 ++ dktX11_list_3
def dkwX11_list_1 : List UInt8 := [54, 5, 21, 5, 42, 180, 0, 32, 3, 46, 162, 0, 113, 3, 54, 6, 3, 54, 7, 21, 7, 42]
abbrev dktX11_list_1 : List UInt8 := dkwX11_list_1 ++ dktX11_list_2
def dkwX11_list_0 : List UInt8 := [42, 180, 0, 7, 153, 0, 15, 42, 27, 182, 0, 216, 154, 0, 7, 28, 156, 0, 5, 9, 173, 9, 66, 3]
abbrev dktX11_list_0 : List UInt8 := dkwX11_list_0 ++ dktX11_list_1
theorem dksX11_list_0 : cX11_list.data.toList.drop 0 = dktX11_list_0 := by decide +kernel
theorem dksX11_list_1 : cX11_list.data.toList.drop 24 = dktX11_list_1 := dk_seg dksX11_list_0 24 rfl rfl
theorem dksX11_list_2 : cX11_list.data.toList.drop 46 = dktX11_list_2 := dk_seg dksX11_list_1 22 rfl rfl
theorem dksX11_list_3 : cX11_list.data.toList.drop 68 = dktX11_list_3 := dk_seg dksX11_list_2 22 rfl rfl
theorem dksX11_list_4 : cX11_list.data.toList.drop 92 = dktX11_list_4 := dk_seg dksX11_list_3 24 rfl rfl
theorem dksX11_list_5 : cX11_list.data.toList.drop 116 = dktX11_list_5 := dk_seg dksX11_list_4 24 rfl rfl
theorem dksX11_list_6 : cX11_list.data.toList.drop 140 = dktX11_list_6 := dk_seg dksX11_list_5 24 rfl rfl
theorem dX11_list_0 : decode cX11_list 0 = .ok (.aload_n 0, 1) := dk_42 (dk_at dksX11_list_0 0 rfl rfl)
theorem dX11_list_1 : decode cX11_list 1 = .ok (.getfield 7, 3) := dk_180 0 7 (dk_at dksX11_list_0 1 rfl rfl)
theorem dX11_list_4 : decode cX11_list 4 = .ok (.ifCond .eq 15, 3) := dk_153 0 15 (dk_at dksX11_list_0 4 rfl rfl)
theorem dX11_list_7 : decode cX11_list 7 = .ok (.aload_n 0, 1) := dk_42 (dk_at dksX11_list_0 7 rfl rfl)
theorem dX11_list_8 : decode cX11_list 8 = .ok (.iload_n 1, 1) := dk_27 (dk_at dksX11_list_0 8 rfl rfl)
theorem dX11_list_9 : decode cX11_list 9 = .ok (.invokevirtual 216, 3) := dk_182 0 216 (dk_at dksX11_list_0 9 rfl rfl)
theorem dX11_list_12 : decode cX11_list 12 = .ok (.ifCond .ne 7, 3) := dk_154 0 7 (dk_at dksX11_list_0 12 rfl rfl)
theorem dX11_list_15 : decode cX11_list 15 = .ok (.iload_n 2, 1) := dk_28 (dk_at dksX11_list_0 15 rfl rfl)
theorem dX11_list_16 : decode cX11_list 16 = .ok (.ifCond .ge 5, 3) := dk_156 0 5 (dk_at dksX11_list_0 16 rfl rfl)
theorem dX11_list_19 : decode cX11_list 19 = .ok (.lconst 0, 1) := dk_9 (dk_at dksX11_list_0 19 rfl rfl)
theorem dX11_list_20 : decode cX11_list 20 = .ok (.lreturn, 1) := dk_173 (dk_at dksX11_list_0 20 rfl rfl)
theorem dX11_list_21 : decode cX11_list 21 = .ok (.lconst 0, 1) := dk_9 (dk_at dksX11_list_0 21 rfl rfl)
theorem dX11_list_22 : decode cX11_list 22 = .ok (.lstore_n 3, 1) := dk_66 (dk_at dksX11_list_0 22 rfl rfl)
theorem dX11_list_23 : decode cX11_list 23 = .ok (.iconst 0, 1) := dk_3 (dk_at dksX11_list_0 23 rfl rfl)
theorem dX11_list_24 : decode cX11_list 24 = .ok (.istore 5, 2) := dk_54 5 (dk_at dksX11_list_1 0 rfl rfl)
theorem dX11_list_26 : decode cX11_list 26 = .ok (.iload 5, 2) := dk_21 5 (dk_at dksX11_list_1 2 rfl rfl)
theorem dX11_list_28 : decode cX11_list 28 = .ok (.aload_n 0, 1) := dk_42 (dk_at dksX11_list_1 4 rfl rfl)
theorem dX11_list_29 : decode cX11_list 29 = .ok (.getfield 32, 3) := dk_180 0 32 (dk_at dksX11_list_1 5 rfl rfl)
theorem dX11_list_32 : decode cX11_list 32 = .ok (.iconst 0, 1) := dk_3 (dk_at dksX11_list_1 8 rfl rfl)
theorem dX11_list_33 : decode cX11_list 33 = .ok (.iaload, 1) := dk_46 (dk_at dksX11_list_1 9 rfl rfl)
theorem dX11_list_34 : decode cX11_list 34 = .ok (.if_icmp .ge 113, 3) := dk_162 0 113 (dk_at dksX11_list_1 10 rfl rfl)
theorem dX11_list_37 : decode cX11_list 37 = .ok (.iconst 0, 1) := dk_3 (dk_at dksX11_list_1 13 rfl rfl)
theorem dX11_list_38 : decode cX11_list 38 = .ok (.istore 6, 2) := dk_54 6 (dk_at dksX11_list_1 14 rfl rfl)
theorem dX11_list_40 : decode cX11_list 40 = .ok (.iconst 0, 1) := dk_3 (dk_at dksX11_list_1 16 rfl rfl)
theorem dX11_list_41 : decode cX11_list 41 = .ok (.istore 7, 2) := dk_54 7 (dk_at dksX11_list_1 17 rfl rfl)
theorem dX11_list_43 : decode cX11_list 43 = .ok (.iload 7, 2) := dk_21 7 (dk_at dksX11_list_1 19 rfl rfl)
theorem dX11_list_45 : decode cX11_list 45 = .ok (.aload_n 0, 1) := dk_42 (dk_at dksX11_list_1 21 rfl rfl)
theorem dX11_list_46 : decode cX11_list 46 = .ok (.getfield 32, 3) := dk_180 0 32 (dk_at dksX11_list_2 0 rfl rfl)
theorem dX11_list_49 : decode cX11_list 49 = .ok (.iconst 0, 1) := dk_3 (dk_at dksX11_list_2 3 rfl rfl)
theorem dX11_list_50 : decode cX11_list 50 = .ok (.iaload, 1) := dk_46 (dk_at dksX11_list_2 4 rfl rfl)
theorem dX11_list_51 : decode cX11_list 51 = .ok (.if_icmp .ge 61, 3) := dk_162 0 61 (dk_at dksX11_list_2 5 rfl rfl)
theorem dX11_list_54 : decode cX11_list 54 = .ok (.aload_n 0, 1) := dk_42 (dk_at dksX11_list_2 8 rfl rfl)
theorem dX11_list_55 : decode cX11_list 55 = .ok (.getfield 35, 3) := dk_180 0 35 (dk_at dksX11_list_2 9 rfl rfl)
theorem dX11_list_58 : decode cX11_list 58 = .ok (.iload 5, 2) := dk_21 5 (dk_at dksX11_list_2 12 rfl rfl)
theorem dX11_list_60 : decode cX11_list 60 = .ok (.iaload, 1) := dk_46 (dk_at dksX11_list_2 14 rfl rfl)
theorem dX11_list_61 : decode cX11_list 61 = .ok (.iload_n 1, 1) := dk_27 (dk_at dksX11_list_2 15 rfl rfl)
theorem dX11_list_62 : decode cX11_list 62 = .ok (.if_icmp .ne 50, 3) := dk_160 0 50 (dk_at dksX11_list_2 16 rfl rfl)
theorem dX11_list_65 : decode cX11_list 65 = .ok (.iload 6, 2) := dk_21 6 (dk_at dksX11_list_2 19 rfl rfl)
theorem dX11_list_67 : decode cX11_list 67 = .ok (.aload_n 0, 1) := dk_42 (dk_at dksX11_list_2 21 rfl rfl)
theorem dX11_list_68 : decode cX11_list 68 = .ok (.getfield 35, 3) := dk_180 0 35 (dk_at dksX11_list_3 0 rfl rfl)
theorem dX11_list_71 : decode cX11_list 71 = .ok (.iload 7, 2) := dk_21 7 (dk_at dksX11_list_3 3 rfl rfl)
theorem dX11_list_73 : decode cX11_list 73 = .ok (.iaload, 1) := dk_46 (dk_at dksX11_list_3 5 rfl rfl)
theorem dX11_list_74 : decode cX11_list 74 = .ok (.iload_n 1, 1) := dk_27 (dk_at dksX11_list_3 6 rfl rfl)
theorem dX11_list_75 : decode cX11_list 75 = .ok (.if_icmp .ne 27, 3) := dk_160 0 27 (dk_at dksX11_list_3 7 rfl rfl)
theorem dX11_list_78 : decode cX11_list 78 = .ok (.aload_n 0, 1) := dk_42 (dk_at dksX11_list_3 10 rfl rfl)
theorem dX11_list_79 : decode cX11_list 79 = .ok (.getfield 38, 3) := dk_180 0 38 (dk_at dksX11_list_3 11 rfl rfl)
theorem dX11_list_82 : decode cX11_list 82 = .ok (.iload 7, 2) := dk_21 7 (dk_at dksX11_list_3 14 rfl rfl)
theorem dX11_list_84 : decode cX11_list 84 = .ok (.laload, 1) := dk_47 (dk_at dksX11_list_3 16 rfl rfl)
theorem dX11_list_85 : decode cX11_list 85 = .ok (.aload_n 0, 1) := dk_42 (dk_at dksX11_list_3 17 rfl rfl)
theorem dX11_list_86 : decode cX11_list 86 = .ok (.getfield 38, 3) := dk_180 0 38 (dk_at dksX11_list_3 18 rfl rfl)
theorem dX11_list_89 : decode cX11_list 89 = .ok (.iload 5, 2) := dk_21 5 (dk_at dksX11_list_3 21 rfl rfl)
theorem dX11_list_91 : decode cX11_list 91 = .ok (.laload, 1) := dk_47 (dk_at dksX11_list_3 23 rfl rfl)
theorem dX11_list_92 : decode cX11_list 92 = .ok (.invokestatic 247, 3) := dk_184 0 247 (dk_at dksX11_list_4 0 rfl rfl)
theorem dX11_list_95 : decode cX11_list 95 = .ok (.ifCond .eq 7, 3) := dk_153 0 7 (dk_at dksX11_list_4 3 rfl rfl)
theorem dX11_list_98 : decode cX11_list 98 = .ok (.iconst 1, 1) := dk_4 (dk_at dksX11_list_4 6 rfl rfl)
theorem dX11_list_99 : decode cX11_list 99 = .ok (.goto 4, 3) := dk_167 0 4 (dk_at dksX11_list_4 7 rfl rfl)
theorem dX11_list_102 : decode cX11_list 102 = .ok (.iconst 0, 1) := dk_3 (dk_at dksX11_list_4 10 rfl rfl)
theorem dX11_list_103 : decode cX11_list 103 = .ok (.iadd, 1) := dk_96 (dk_at dksX11_list_4 11 rfl rfl)
theorem dX11_list_104 : decode cX11_list 104 = .ok (.istore 6, 2) := dk_54 6 (dk_at dksX11_list_4 12 rfl rfl)
theorem dX11_list_106 : decode cX11_list 106 = .ok (.iinc 7 1, 3) := dk_132 7 1 (dk_at dksX11_list_4 14 rfl rfl)
theorem dX11_list_109 : decode cX11_list 109 = .ok (.goto (-66), 3) := dk_167 255 190 (dk_at dksX11_list_4 17 rfl rfl)
theorem dX11_list_112 : decode cX11_list 112 = .ok (.aload_n 0, 1) := dk_42 (dk_at dksX11_list_4 20 rfl rfl)
theorem dX11_list_113 : decode cX11_list 113 = .ok (.getfield 35, 3) := dk_180 0 35 (dk_at dksX11_list_4 21 rfl rfl)
theorem dX11_list_116 : decode cX11_list 116 = .ok (.iload 5, 2) := dk_21 5 (dk_at dksX11_list_5 0 rfl rfl)
theorem dX11_list_118 : decode cX11_list 118 = .ok (.iaload, 1) := dk_46 (dk_at dksX11_list_5 2 rfl rfl)
theorem dX11_list_119 : decode cX11_list 119 = .ok (.iload_n 1, 1) := dk_27 (dk_at dksX11_list_5 3 rfl rfl)
theorem dX11_list_120 : decode cX11_list 120 = .ok (.if_icmp .ne 19, 3) := dk_160 0 19 (dk_at dksX11_list_5 4 rfl rfl)
theorem dX11_list_123 : decode cX11_list 123 = .ok (.iload 6, 2) := dk_21 6 (dk_at dksX11_list_5 7 rfl rfl)
theorem dX11_list_125 : decode cX11_list 125 = .ok (.iload_n 2, 1) := dk_28 (dk_at dksX11_list_5 9 rfl rfl)
theorem dX11_list_126 : decode cX11_list 126 = .ok (.if_icmp .ne 13, 3) := dk_160 0 13 (dk_at dksX11_list_5 10 rfl rfl)
theorem dX11_list_129 : decode cX11_list 129 = .ok (.aload_n 0, 1) := dk_42 (dk_at dksX11_list_5 13 rfl rfl)
theorem dX11_list_130 : decode cX11_list 130 = .ok (.getfield 38, 3) := dk_180 0 38 (dk_at dksX11_list_5 14 rfl rfl)
theorem dX11_list_133 : decode cX11_list 133 = .ok (.iload 5, 2) := dk_21 5 (dk_at dksX11_list_5 17 rfl rfl)
theorem dX11_list_135 : decode cX11_list 135 = .ok (.laload, 1) := dk_47 (dk_at dksX11_list_5 19 rfl rfl)
theorem dX11_list_136 : decode cX11_list 136 = .ok (.goto 4, 3) := dk_167 0 4 (dk_at dksX11_list_5 20 rfl rfl)
theorem dX11_list_139 : decode cX11_list 139 = .ok (.lload_n 3, 1) := dk_33 (dk_at dksX11_list_5 23 rfl rfl)
theorem dX11_list_140 : decode cX11_list 140 = .ok (.lstore_n 3, 1) := dk_66 (dk_at dksX11_list_6 0 rfl rfl)
theorem dX11_list_141 : decode cX11_list 141 = .ok (.iinc 5 1, 3) := dk_132 5 1 (dk_at dksX11_list_6 1 rfl rfl)
theorem dX11_list_144 : decode cX11_list 144 = .ok (.goto (-118), 3) := dk_167 255 138 (dk_at dksX11_list_6 4 rfl rfl)
theorem dX11_list_147 : decode cX11_list 147 = .ok (.lload_n 3, 1) := dk_33 (dk_at dksX11_list_6 7 rfl rfl)
theorem dX11_list_148 : decode cX11_list 148 = .ok (.lreturn, 1) := dk_173 (dk_at dksX11_list_6 8 rfl rfl)
abbrev cX11_isBefore : ByteArray := prog_12_method_28_code
def yX11_isBefore : MethodName := ⟨RX11, "isBefore", "(JJ)Z"⟩
def dkwX11_isBefore_2 : List UInt8 := [3, 172]
abbrev dktX11_isBefore_2 : List UInt8 := dkwX11_isBefore_2 ++ []
def dkwX11_isBefore_1 : List UInt8 := [32, 21, 5, 184, 0, 205, 100, 54, 4, 132, 5, 1, 167, 255, 226, 21, 4, 156, 0, 7, 4, 167, 0, 4]
abbrev dktX11_isBefore_1 : List UInt8 := dkwX11_isBefore_1 ++ dktX11_isBefore_2
def dkwX11_isBefore_0 : List UInt8 := [3, 54, 4, 3, 54, 5, 21, 5, 16, 8, 162, 0, 29, 21, 4, 154, 0, 24, 30, 21, 5, 184, 0, 205]
abbrev dktX11_isBefore_0 : List UInt8 := dkwX11_isBefore_0 ++ dktX11_isBefore_1
theorem dksX11_isBefore_0 : cX11_isBefore.data.toList.drop 0 = dktX11_isBefore_0 := by decide +kernel
theorem dksX11_isBefore_1 : cX11_isBefore.data.toList.drop 24 = dktX11_isBefore_1 := dk_seg dksX11_isBefore_0 24 rfl rfl
theorem dksX11_isBefore_2 : cX11_isBefore.data.toList.drop 48 = dktX11_isBefore_2 := dk_seg dksX11_isBefore_1 24 rfl rfl
theorem dX11_isBefore_0 : decode cX11_isBefore 0 = .ok (.iconst 0, 1) := dk_3 (dk_at dksX11_isBefore_0 0 rfl rfl)
theorem dX11_isBefore_1 : decode cX11_isBefore 1 = .ok (.istore 4, 2) := dk_54 4 (dk_at dksX11_isBefore_0 1 rfl rfl)
theorem dX11_isBefore_3 : decode cX11_isBefore 3 = .ok (.iconst 0, 1) := dk_3 (dk_at dksX11_isBefore_0 3 rfl rfl)
theorem dX11_isBefore_4 : decode cX11_isBefore 4 = .ok (.istore 5, 2) := dk_54 5 (dk_at dksX11_isBefore_0 4 rfl rfl)
theorem dX11_isBefore_6 : decode cX11_isBefore 6 = .ok (.iload 5, 2) := dk_21 5 (dk_at dksX11_isBefore_0 6 rfl rfl)
theorem dX11_isBefore_8 : decode cX11_isBefore 8 = .ok (.bipush 8, 2) := dk_16 8 (dk_at dksX11_isBefore_0 8 rfl rfl)
theorem dX11_isBefore_10 : decode cX11_isBefore 10 = .ok (.if_icmp .ge 29, 3) := dk_162 0 29 (dk_at dksX11_isBefore_0 10 rfl rfl)
theorem dX11_isBefore_13 : decode cX11_isBefore 13 = .ok (.iload 4, 2) := dk_21 4 (dk_at dksX11_isBefore_0 13 rfl rfl)
theorem dX11_isBefore_15 : decode cX11_isBefore 15 = .ok (.ifCond .ne 24, 3) := dk_154 0 24 (dk_at dksX11_isBefore_0 15 rfl rfl)
theorem dX11_isBefore_18 : decode cX11_isBefore 18 = .ok (.lload_n 0, 1) := dk_30 (dk_at dksX11_isBefore_0 18 rfl rfl)
theorem dX11_isBefore_19 : decode cX11_isBefore 19 = .ok (.iload 5, 2) := dk_21 5 (dk_at dksX11_isBefore_0 19 rfl rfl)
theorem dX11_isBefore_21 : decode cX11_isBefore 21 = .ok (.invokestatic 205, 3) := dk_184 0 205 (dk_at dksX11_isBefore_0 21 rfl rfl)
theorem dX11_isBefore_24 : decode cX11_isBefore 24 = .ok (.lload_n 2, 1) := dk_32 (dk_at dksX11_isBefore_1 0 rfl rfl)
theorem dX11_isBefore_25 : decode cX11_isBefore 25 = .ok (.iload 5, 2) := dk_21 5 (dk_at dksX11_isBefore_1 1 rfl rfl)
theorem dX11_isBefore_27 : decode cX11_isBefore 27 = .ok (.invokestatic 205, 3) := dk_184 0 205 (dk_at dksX11_isBefore_1 3 rfl rfl)
theorem dX11_isBefore_30 : decode cX11_isBefore 30 = .ok (.isub, 1) := dk_100 (dk_at dksX11_isBefore_1 6 rfl rfl)
theorem dX11_isBefore_31 : decode cX11_isBefore 31 = .ok (.istore 4, 2) := dk_54 4 (dk_at dksX11_isBefore_1 7 rfl rfl)
theorem dX11_isBefore_33 : decode cX11_isBefore 33 = .ok (.iinc 5 1, 3) := dk_132 5 1 (dk_at dksX11_isBefore_1 9 rfl rfl)
theorem dX11_isBefore_36 : decode cX11_isBefore 36 = .ok (.goto (-30), 3) := dk_167 255 226 (dk_at dksX11_isBefore_1 12 rfl rfl)
theorem dX11_isBefore_39 : decode cX11_isBefore 39 = .ok (.iload 4, 2) := dk_21 4 (dk_at dksX11_isBefore_1 15 rfl rfl)
theorem dX11_isBefore_41 : decode cX11_isBefore 41 = .ok (.ifCond .ge 7, 3) := dk_156 0 7 (dk_at dksX11_isBefore_1 17 rfl rfl)
theorem dX11_isBefore_44 : decode cX11_isBefore 44 = .ok (.iconst 1, 1) := dk_4 (dk_at dksX11_isBefore_1 20 rfl rfl)
theorem dX11_isBefore_45 : decode cX11_isBefore 45 = .ok (.goto 4, 3) := dk_167 0 4 (dk_at dksX11_isBefore_1 21 rfl rfl)
theorem dX11_isBefore_48 : decode cX11_isBefore 48 = .ok (.iconst 0, 1) := dk_3 (dk_at dksX11_isBefore_2 0 rfl rfl)
theorem dX11_isBefore_49 : decode cX11_isBefore 49 = .ok (.ireturn, 1) := dk_172 (dk_at dksX11_isBefore_2 1 rfl rfl)
abbrev cX11_after : ByteArray := prog_12_method_43_code
def yX11_after : MethodName := ⟨RX11, "after", "(IJ)J"⟩
def dkwX11_after_5 : List UInt8 := [180, 0, 38, 21, 6, 47, 167, 0, 5, 22, 4, 55, 4, 132, 6, 1, 167, 255, 163, 22, 4, 173]
abbrev dktX11_after_5 : List UInt8 := dkwX11_after_5 ++ []
def dkwX11_after_4 : List UInt8 := [22, 4, 9, 148, 153, 0, 18, 42, 180, 0, 38, 21, 6, 47, 22, 4, 184, 0, 247, 153, 0, 13, 42]
abbrev dktX11_after_4 : List UInt8 := dkwX11_after_4 ++ dktX11_after_5
def dkwX11_after_3 : List UInt8 := [180, 0, 38, 21, 6, 47, 184, 0, 247, 153, 0, 7, 4, 167, 0, 4, 3, 54, 7, 21, 7, 153, 0, 35]
abbrev dktX11_after_3 : List UInt8 := dkwX11_after_3 ++ dktX11_after_4
def dkwX11_after_2 : List UInt8 := [162, 0, 88, 42, 180, 0, 35, 21, 6, 46, 27, 160, 0, 27, 32, 9, 148, 153, 0, 17, 32, 42]
abbrev dktX11_after_2 : List UInt8 := dkwX11_after_2 ++ dktX11_after_3
def dkwX11_after_1 : List UInt8 := [184, 0, 209, 154, 0, 5, 9, 173, 9, 55, 4, 3, 54, 6, 21, 6, 42, 180, 0, 32, 3, 46]
abbrev dktX11_after_1 : List UInt8 := dkwX11_after_1 ++ dktX11_after_2
def dkwX11_after_0 : List UInt8 := [42, 180, 0, 7, 153, 0, 24, 42, 27, 182, 0, 216, 154, 0, 16, 32, 9, 148, 153, 0, 12, 32]
abbrev dktX11_after_0 : List UInt8 := dkwX11_after_0 ++ dktX11_after_1
theorem dksX11_after_0 : cX11_after.data.toList.drop 0 = dktX11_after_0 := by decide +kernel
theorem dksX11_after_1 : cX11_after.data.toList.drop 22 = dktX11_after_1 := dk_seg dksX11_after_0 22 rfl rfl
theorem dksX11_after_2 : cX11_after.data.toList.drop 44 = dktX11_after_2 := dk_seg dksX11_after_1 22 rfl rfl
theorem dksX11_after_3 : cX11_after.data.toList.drop 66 = dktX11_after_3 := dk_seg dksX11_after_2 22 rfl rfl
theorem dksX11_after_4 : cX11_after.data.toList.drop 90 = dktX11_after_4 := dk_seg dksX11_after_3 24 rfl rfl
theorem dksX11_after_5 : cX11_after.data.toList.drop 113 = dktX11_after_5 := dk_seg dksX11_after_4 23 rfl rfl
theorem dX11_after_0 : decode cX11_after 0 = .ok (.aload_n 0, 1) := dk_42 (dk_at dksX11_after_0 0 rfl rfl)
theorem dX11_after_1 : decode cX11_after 1 = .ok (.getfield 7, 3) := dk_180 0 7 (dk_at dksX11_after_0 1 rfl rfl)
theorem dX11_after_4 : decode cX11_after 4 = .ok (.ifCond .eq 24, 3) := dk_153 0 24 (dk_at dksX11_after_0 4 rfl rfl)
theorem dX11_after_7 : decode cX11_after 7 = .ok (.aload_n 0, 1) := dk_42 (dk_at dksX11_after_0 7 rfl rfl)
theorem dX11_after_8 : decode cX11_after 8 = .ok (.iload_n 1, 1) := dk_27 (dk_at dksX11_after_0 8 rfl rfl)
theorem dX11_after_9 : decode cX11_after 9 = .ok (.invokevirtual 216, 3) := dk_182 0 216 (dk_at dksX11_after_0 9 rfl rfl)
theorem dX11_after_12 : decode cX11_after 12 = .ok (.ifCond .ne 16, 3) := dk_154 0 16 (dk_at dksX11_after_0 12 rfl rfl)
theorem dX11_after_15 : decode cX11_after 15 = .ok (.lload_n 2, 1) := dk_32 (dk_at dksX11_after_0 15 rfl rfl)
theorem dX11_after_16 : decode cX11_after 16 = .ok (.lconst 0, 1) := dk_9 (dk_at dksX11_after_0 16 rfl rfl)
theorem dX11_after_17 : decode cX11_after 17 = .ok (.lcmp, 1) := dk_148 (dk_at dksX11_after_0 17 rfl rfl)
theorem dX11_after_18 : decode cX11_after 18 = .ok (.ifCond .eq 12, 3) := dk_153 0 12 (dk_at dksX11_after_0 18 rfl rfl)
theorem dX11_after_21 : decode cX11_after 21 = .ok (.lload_n 2, 1) := dk_32 (dk_at dksX11_after_0 21 rfl rfl)
theorem dX11_after_22 : decode cX11_after 22 = .ok (.invokestatic 209, 3) := dk_184 0 209 (dk_at dksX11_after_1 0 rfl rfl)
theorem dX11_after_25 : decode cX11_after 25 = .ok (.ifCond .ne 5, 3) := dk_154 0 5 (dk_at dksX11_after_1 3 rfl rfl)
theorem dX11_after_28 : decode cX11_after 28 = .ok (.lconst 0, 1) := dk_9 (dk_at dksX11_after_1 6 rfl rfl)
theorem dX11_after_29 : decode cX11_after 29 = .ok (.lreturn, 1) := dk_173 (dk_at dksX11_after_1 7 rfl rfl)
theorem dX11_after_30 : decode cX11_after 30 = .ok (.lconst 0, 1) := dk_9 (dk_at dksX11_after_1 8 rfl rfl)
theorem dX11_after_31 : decode cX11_after 31 = .ok (.lstore 4, 2) := dk_55 4 (dk_at dksX11_after_1 9 rfl rfl)
theorem dX11_after_33 : decode cX11_after 33 = .ok (.iconst 0, 1) := dk_3 (dk_at dksX11_after_1 11 rfl rfl)
theorem dX11_after_34 : decode cX11_after 34 = .ok (.istore 6, 2) := dk_54 6 (dk_at dksX11_after_1 12 rfl rfl)
theorem dX11_after_36 : decode cX11_after 36 = .ok (.iload 6, 2) := dk_21 6 (dk_at dksX11_after_1 14 rfl rfl)
theorem dX11_after_38 : decode cX11_after 38 = .ok (.aload_n 0, 1) := dk_42 (dk_at dksX11_after_1 16 rfl rfl)
theorem dX11_after_39 : decode cX11_after 39 = .ok (.getfield 32, 3) := dk_180 0 32 (dk_at dksX11_after_1 17 rfl rfl)
theorem dX11_after_42 : decode cX11_after 42 = .ok (.iconst 0, 1) := dk_3 (dk_at dksX11_after_1 20 rfl rfl)
theorem dX11_after_43 : decode cX11_after 43 = .ok (.iaload, 1) := dk_46 (dk_at dksX11_after_1 21 rfl rfl)
theorem dX11_after_44 : decode cX11_after 44 = .ok (.if_icmp .ge 88, 3) := dk_162 0 88 (dk_at dksX11_after_2 0 rfl rfl)
theorem dX11_after_47 : decode cX11_after 47 = .ok (.aload_n 0, 1) := dk_42 (dk_at dksX11_after_2 3 rfl rfl)
theorem dX11_after_48 : decode cX11_after 48 = .ok (.getfield 35, 3) := dk_180 0 35 (dk_at dksX11_after_2 4 rfl rfl)
theorem dX11_after_51 : decode cX11_after 51 = .ok (.iload 6, 2) := dk_21 6 (dk_at dksX11_after_2 7 rfl rfl)
theorem dX11_after_53 : decode cX11_after 53 = .ok (.iaload, 1) := dk_46 (dk_at dksX11_after_2 9 rfl rfl)
theorem dX11_after_54 : decode cX11_after 54 = .ok (.iload_n 1, 1) := dk_27 (dk_at dksX11_after_2 10 rfl rfl)
theorem dX11_after_55 : decode cX11_after 55 = .ok (.if_icmp .ne 27, 3) := dk_160 0 27 (dk_at dksX11_after_2 11 rfl rfl)
theorem dX11_after_58 : decode cX11_after 58 = .ok (.lload_n 2, 1) := dk_32 (dk_at dksX11_after_2 14 rfl rfl)
theorem dX11_after_59 : decode cX11_after 59 = .ok (.lconst 0, 1) := dk_9 (dk_at dksX11_after_2 15 rfl rfl)
theorem dX11_after_60 : decode cX11_after 60 = .ok (.lcmp, 1) := dk_148 (dk_at dksX11_after_2 16 rfl rfl)
theorem dX11_after_61 : decode cX11_after 61 = .ok (.ifCond .eq 17, 3) := dk_153 0 17 (dk_at dksX11_after_2 17 rfl rfl)
theorem dX11_after_64 : decode cX11_after 64 = .ok (.lload_n 2, 1) := dk_32 (dk_at dksX11_after_2 20 rfl rfl)
theorem dX11_after_65 : decode cX11_after 65 = .ok (.aload_n 0, 1) := dk_42 (dk_at dksX11_after_2 21 rfl rfl)
theorem dX11_after_66 : decode cX11_after 66 = .ok (.getfield 38, 3) := dk_180 0 38 (dk_at dksX11_after_3 0 rfl rfl)
theorem dX11_after_69 : decode cX11_after 69 = .ok (.iload 6, 2) := dk_21 6 (dk_at dksX11_after_3 3 rfl rfl)
theorem dX11_after_71 : decode cX11_after 71 = .ok (.laload, 1) := dk_47 (dk_at dksX11_after_3 5 rfl rfl)
theorem dX11_after_72 : decode cX11_after 72 = .ok (.invokestatic 247, 3) := dk_184 0 247 (dk_at dksX11_after_3 6 rfl rfl)
theorem dX11_after_75 : decode cX11_after 75 = .ok (.ifCond .eq 7, 3) := dk_153 0 7 (dk_at dksX11_after_3 9 rfl rfl)
theorem dX11_after_78 : decode cX11_after 78 = .ok (.iconst 1, 1) := dk_4 (dk_at dksX11_after_3 12 rfl rfl)
theorem dX11_after_79 : decode cX11_after 79 = .ok (.goto 4, 3) := dk_167 0 4 (dk_at dksX11_after_3 13 rfl rfl)
theorem dX11_after_82 : decode cX11_after 82 = .ok (.iconst 0, 1) := dk_3 (dk_at dksX11_after_3 16 rfl rfl)
theorem dX11_after_83 : decode cX11_after 83 = .ok (.istore 7, 2) := dk_54 7 (dk_at dksX11_after_3 17 rfl rfl)
theorem dX11_after_85 : decode cX11_after 85 = .ok (.iload 7, 2) := dk_21 7 (dk_at dksX11_after_3 19 rfl rfl)
theorem dX11_after_87 : decode cX11_after 87 = .ok (.ifCond .eq 35, 3) := dk_153 0 35 (dk_at dksX11_after_3 21 rfl rfl)
theorem dX11_after_90 : decode cX11_after 90 = .ok (.lload 4, 2) := dk_22 4 (dk_at dksX11_after_4 0 rfl rfl)
theorem dX11_after_92 : decode cX11_after 92 = .ok (.lconst 0, 1) := dk_9 (dk_at dksX11_after_4 2 rfl rfl)
theorem dX11_after_93 : decode cX11_after 93 = .ok (.lcmp, 1) := dk_148 (dk_at dksX11_after_4 3 rfl rfl)
theorem dX11_after_94 : decode cX11_after 94 = .ok (.ifCond .eq 18, 3) := dk_153 0 18 (dk_at dksX11_after_4 4 rfl rfl)
theorem dX11_after_97 : decode cX11_after 97 = .ok (.aload_n 0, 1) := dk_42 (dk_at dksX11_after_4 7 rfl rfl)
theorem dX11_after_98 : decode cX11_after 98 = .ok (.getfield 38, 3) := dk_180 0 38 (dk_at dksX11_after_4 8 rfl rfl)
theorem dX11_after_101 : decode cX11_after 101 = .ok (.iload 6, 2) := dk_21 6 (dk_at dksX11_after_4 11 rfl rfl)
theorem dX11_after_103 : decode cX11_after 103 = .ok (.laload, 1) := dk_47 (dk_at dksX11_after_4 13 rfl rfl)
theorem dX11_after_104 : decode cX11_after 104 = .ok (.lload 4, 2) := dk_22 4 (dk_at dksX11_after_4 14 rfl rfl)
theorem dX11_after_106 : decode cX11_after 106 = .ok (.invokestatic 247, 3) := dk_184 0 247 (dk_at dksX11_after_4 16 rfl rfl)
theorem dX11_after_109 : decode cX11_after 109 = .ok (.ifCond .eq 13, 3) := dk_153 0 13 (dk_at dksX11_after_4 19 rfl rfl)
theorem dX11_after_112 : decode cX11_after 112 = .ok (.aload_n 0, 1) := dk_42 (dk_at dksX11_after_4 22 rfl rfl)
theorem dX11_after_113 : decode cX11_after 113 = .ok (.getfield 38, 3) := dk_180 0 38 (dk_at dksX11_after_5 0 rfl rfl)
theorem dX11_after_116 : decode cX11_after 116 = .ok (.iload 6, 2) := dk_21 6 (dk_at dksX11_after_5 3 rfl rfl)
theorem dX11_after_118 : decode cX11_after 118 = .ok (.laload, 1) := dk_47 (dk_at dksX11_after_5 5 rfl rfl)
theorem dX11_after_119 : decode cX11_after 119 = .ok (.goto 5, 3) := dk_167 0 5 (dk_at dksX11_after_5 6 rfl rfl)
theorem dX11_after_122 : decode cX11_after 122 = .ok (.lload 4, 2) := dk_22 4 (dk_at dksX11_after_5 9 rfl rfl)
theorem dX11_after_124 : decode cX11_after 124 = .ok (.lstore 4, 2) := dk_55 4 (dk_at dksX11_after_5 11 rfl rfl)
theorem dX11_after_126 : decode cX11_after 126 = .ok (.iinc 6 1, 3) := dk_132 6 1 (dk_at dksX11_after_5 13 rfl rfl)
theorem dX11_after_129 : decode cX11_after 129 = .ok (.goto (-93), 3) := dk_167 255 163 (dk_at dksX11_after_5 16 rfl rfl)
theorem dX11_after_132 : decode cX11_after 132 = .ok (.lload 4, 2) := dk_22 4 (dk_at dksX11_after_5 19 rfl rfl)
theorem dX11_after_134 : decode cX11_after 134 = .ok (.lreturn, 1) := dk_173 (dk_at dksX11_after_5 21 rfl rfl)
abbrev cX11_feed : ByteArray := prog_12_method_44_code
def yX11_feed : MethodName := ⟨RX11, "feed", "(JI)I"⟩
def dkwX11_feed_5 : List UInt8 := [4, 96, 181, 0, 213, 132, 5, 1, 167, 255, 221, 42, 180, 0, 213, 172]
abbrev dktX11_feed_5 : List UInt8 := dkwX11_feed_5 ++ []
def dkwX11_feed_4 : List UInt8 := [162, 0, 35, 42, 180, 0, 111, 42, 180, 0, 213, 31, 21, 5, 184, 0, 205, 145, 84, 42, 89, 180, 0, 213]
abbrev dktX11_feed_4 : List UInt8 := dkwX11_feed_4 ++ dktX11_feed_5
def dkwX11_feed_3 : List UInt8 := [16, 253, 172, 42, 180, 0, 213, 29, 96, 17, 0, 200, 164, 0, 6, 16, 246, 172, 3, 54, 5, 21, 5, 29]
abbrev dktX11_feed_3 : List UInt8 := dkwX11_feed_3 ++ dktX11_feed_4
def dkwX11_feed_2 : List UInt8 := [184, 0, 205, 153, 0, 7, 4, 167, 0, 4, 3, 54, 4, 132, 5, 1, 167, 255, 226, 21, 4, 154, 0, 6]
abbrev dktX11_feed_2 : List UInt8 := dkwX11_feed_2 ++ dktX11_feed_3
def dkwX11_feed_1 : List UInt8 := [167, 0, 4, 3, 54, 4, 3, 54, 5, 21, 5, 29, 162, 0, 30, 21, 4, 153, 0, 25, 31, 21, 5]
abbrev dktX11_feed_1 : List UInt8 := dkwX11_feed_1 ++ dktX11_feed_2
def dkwX11_feed_0 : List UInt8 := [42, 180, 0, 7, 154, 0, 6, 16, 254, 172, 29, 4, 161, 0, 13, 29, 16, 8, 163, 0, 7, 4]
abbrev dktX11_feed_0 : List UInt8 := dkwX11_feed_0 ++ dktX11_feed_1
theorem dksX11_feed_0 : cX11_feed.data.toList.drop 0 = dktX11_feed_0 := by decide +kernel
theorem dksX11_feed_1 : cX11_feed.data.toList.drop 22 = dktX11_feed_1 := dk_seg dksX11_feed_0 22 rfl rfl
theorem dksX11_feed_2 : cX11_feed.data.toList.drop 45 = dktX11_feed_2 := dk_seg dksX11_feed_1 23 rfl rfl
theorem dksX11_feed_3 : cX11_feed.data.toList.drop 69 = dktX11_feed_3 := dk_seg dksX11_feed_2 24 rfl rfl
theorem dksX11_feed_4 : cX11_feed.data.toList.drop 93 = dktX11_feed_4 := dk_seg dksX11_feed_3 24 rfl rfl
theorem dksX11_feed_5 : cX11_feed.data.toList.drop 117 = dktX11_feed_5 := dk_seg dksX11_feed_4 24 rfl rfl
theorem dX11_feed_0 : decode cX11_feed 0 = .ok (.aload_n 0, 1) := dk_42 (dk_at dksX11_feed_0 0 rfl rfl)
theorem dX11_feed_1 : decode cX11_feed 1 = .ok (.getfield 7, 3) := dk_180 0 7 (dk_at dksX11_feed_0 1 rfl rfl)
theorem dX11_feed_4 : decode cX11_feed 4 = .ok (.ifCond .ne 6, 3) := dk_154 0 6 (dk_at dksX11_feed_0 4 rfl rfl)
theorem dX11_feed_7 : decode cX11_feed 7 = .ok (.bipush (-2), 2) := dk_16 254 (dk_at dksX11_feed_0 7 rfl rfl)
theorem dX11_feed_9 : decode cX11_feed 9 = .ok (.ireturn, 1) := dk_172 (dk_at dksX11_feed_0 9 rfl rfl)
theorem dX11_feed_10 : decode cX11_feed 10 = .ok (.iload_n 3, 1) := dk_29 (dk_at dksX11_feed_0 10 rfl rfl)
theorem dX11_feed_11 : decode cX11_feed 11 = .ok (.iconst 1, 1) := dk_4 (dk_at dksX11_feed_0 11 rfl rfl)
theorem dX11_feed_12 : decode cX11_feed 12 = .ok (.if_icmp .lt 13, 3) := dk_161 0 13 (dk_at dksX11_feed_0 12 rfl rfl)
theorem dX11_feed_15 : decode cX11_feed 15 = .ok (.iload_n 3, 1) := dk_29 (dk_at dksX11_feed_0 15 rfl rfl)
theorem dX11_feed_16 : decode cX11_feed 16 = .ok (.bipush 8, 2) := dk_16 8 (dk_at dksX11_feed_0 16 rfl rfl)
theorem dX11_feed_18 : decode cX11_feed 18 = .ok (.if_icmp .gt 7, 3) := dk_163 0 7 (dk_at dksX11_feed_0 18 rfl rfl)
theorem dX11_feed_21 : decode cX11_feed 21 = .ok (.iconst 1, 1) := dk_4 (dk_at dksX11_feed_0 21 rfl rfl)
theorem dX11_feed_22 : decode cX11_feed 22 = .ok (.goto 4, 3) := dk_167 0 4 (dk_at dksX11_feed_1 0 rfl rfl)
theorem dX11_feed_25 : decode cX11_feed 25 = .ok (.iconst 0, 1) := dk_3 (dk_at dksX11_feed_1 3 rfl rfl)
theorem dX11_feed_26 : decode cX11_feed 26 = .ok (.istore 4, 2) := dk_54 4 (dk_at dksX11_feed_1 4 rfl rfl)
theorem dX11_feed_28 : decode cX11_feed 28 = .ok (.iconst 0, 1) := dk_3 (dk_at dksX11_feed_1 6 rfl rfl)
theorem dX11_feed_29 : decode cX11_feed 29 = .ok (.istore 5, 2) := dk_54 5 (dk_at dksX11_feed_1 7 rfl rfl)
theorem dX11_feed_31 : decode cX11_feed 31 = .ok (.iload 5, 2) := dk_21 5 (dk_at dksX11_feed_1 9 rfl rfl)
theorem dX11_feed_33 : decode cX11_feed 33 = .ok (.iload_n 3, 1) := dk_29 (dk_at dksX11_feed_1 11 rfl rfl)
theorem dX11_feed_34 : decode cX11_feed 34 = .ok (.if_icmp .ge 30, 3) := dk_162 0 30 (dk_at dksX11_feed_1 12 rfl rfl)
theorem dX11_feed_37 : decode cX11_feed 37 = .ok (.iload 4, 2) := dk_21 4 (dk_at dksX11_feed_1 15 rfl rfl)
theorem dX11_feed_39 : decode cX11_feed 39 = .ok (.ifCond .eq 25, 3) := dk_153 0 25 (dk_at dksX11_feed_1 17 rfl rfl)
theorem dX11_feed_42 : decode cX11_feed 42 = .ok (.lload_n 1, 1) := dk_31 (dk_at dksX11_feed_1 20 rfl rfl)
theorem dX11_feed_43 : decode cX11_feed 43 = .ok (.iload 5, 2) := dk_21 5 (dk_at dksX11_feed_1 21 rfl rfl)
theorem dX11_feed_45 : decode cX11_feed 45 = .ok (.invokestatic 205, 3) := dk_184 0 205 (dk_at dksX11_feed_2 0 rfl rfl)
theorem dX11_feed_48 : decode cX11_feed 48 = .ok (.ifCond .eq 7, 3) := dk_153 0 7 (dk_at dksX11_feed_2 3 rfl rfl)
theorem dX11_feed_51 : decode cX11_feed 51 = .ok (.iconst 1, 1) := dk_4 (dk_at dksX11_feed_2 6 rfl rfl)
theorem dX11_feed_52 : decode cX11_feed 52 = .ok (.goto 4, 3) := dk_167 0 4 (dk_at dksX11_feed_2 7 rfl rfl)
theorem dX11_feed_55 : decode cX11_feed 55 = .ok (.iconst 0, 1) := dk_3 (dk_at dksX11_feed_2 10 rfl rfl)
theorem dX11_feed_56 : decode cX11_feed 56 = .ok (.istore 4, 2) := dk_54 4 (dk_at dksX11_feed_2 11 rfl rfl)
theorem dX11_feed_58 : decode cX11_feed 58 = .ok (.iinc 5 1, 3) := dk_132 5 1 (dk_at dksX11_feed_2 13 rfl rfl)
theorem dX11_feed_61 : decode cX11_feed 61 = .ok (.goto (-30), 3) := dk_167 255 226 (dk_at dksX11_feed_2 16 rfl rfl)
theorem dX11_feed_64 : decode cX11_feed 64 = .ok (.iload 4, 2) := dk_21 4 (dk_at dksX11_feed_2 19 rfl rfl)
theorem dX11_feed_66 : decode cX11_feed 66 = .ok (.ifCond .ne 6, 3) := dk_154 0 6 (dk_at dksX11_feed_2 21 rfl rfl)
theorem dX11_feed_69 : decode cX11_feed 69 = .ok (.bipush (-3), 2) := dk_16 253 (dk_at dksX11_feed_3 0 rfl rfl)
theorem dX11_feed_71 : decode cX11_feed 71 = .ok (.ireturn, 1) := dk_172 (dk_at dksX11_feed_3 2 rfl rfl)
theorem dX11_feed_72 : decode cX11_feed 72 = .ok (.aload_n 0, 1) := dk_42 (dk_at dksX11_feed_3 3 rfl rfl)
theorem dX11_feed_73 : decode cX11_feed 73 = .ok (.getfield 213, 3) := dk_180 0 213 (dk_at dksX11_feed_3 4 rfl rfl)
theorem dX11_feed_76 : decode cX11_feed 76 = .ok (.iload_n 3, 1) := dk_29 (dk_at dksX11_feed_3 7 rfl rfl)
theorem dX11_feed_77 : decode cX11_feed 77 = .ok (.iadd, 1) := dk_96 (dk_at dksX11_feed_3 8 rfl rfl)
theorem dX11_feed_78 : decode cX11_feed 78 = .ok (.sipush 200, 3) := dk_17 0 200 (dk_at dksX11_feed_3 9 rfl rfl)
theorem dX11_feed_81 : decode cX11_feed 81 = .ok (.if_icmp .le 6, 3) := dk_164 0 6 (dk_at dksX11_feed_3 12 rfl rfl)
theorem dX11_feed_84 : decode cX11_feed 84 = .ok (.bipush (-10), 2) := dk_16 246 (dk_at dksX11_feed_3 15 rfl rfl)
theorem dX11_feed_86 : decode cX11_feed 86 = .ok (.ireturn, 1) := dk_172 (dk_at dksX11_feed_3 17 rfl rfl)
theorem dX11_feed_87 : decode cX11_feed 87 = .ok (.iconst 0, 1) := dk_3 (dk_at dksX11_feed_3 18 rfl rfl)
theorem dX11_feed_88 : decode cX11_feed 88 = .ok (.istore 5, 2) := dk_54 5 (dk_at dksX11_feed_3 19 rfl rfl)
theorem dX11_feed_90 : decode cX11_feed 90 = .ok (.iload 5, 2) := dk_21 5 (dk_at dksX11_feed_3 21 rfl rfl)
theorem dX11_feed_92 : decode cX11_feed 92 = .ok (.iload_n 3, 1) := dk_29 (dk_at dksX11_feed_3 23 rfl rfl)
theorem dX11_feed_93 : decode cX11_feed 93 = .ok (.if_icmp .ge 35, 3) := dk_162 0 35 (dk_at dksX11_feed_4 0 rfl rfl)
theorem dX11_feed_96 : decode cX11_feed 96 = .ok (.aload_n 0, 1) := dk_42 (dk_at dksX11_feed_4 3 rfl rfl)
theorem dX11_feed_97 : decode cX11_feed 97 = .ok (.getfield 111, 3) := dk_180 0 111 (dk_at dksX11_feed_4 4 rfl rfl)
theorem dX11_feed_100 : decode cX11_feed 100 = .ok (.aload_n 0, 1) := dk_42 (dk_at dksX11_feed_4 7 rfl rfl)
theorem dX11_feed_101 : decode cX11_feed 101 = .ok (.getfield 213, 3) := dk_180 0 213 (dk_at dksX11_feed_4 8 rfl rfl)
theorem dX11_feed_104 : decode cX11_feed 104 = .ok (.lload_n 1, 1) := dk_31 (dk_at dksX11_feed_4 11 rfl rfl)
theorem dX11_feed_105 : decode cX11_feed 105 = .ok (.iload 5, 2) := dk_21 5 (dk_at dksX11_feed_4 12 rfl rfl)
theorem dX11_feed_107 : decode cX11_feed 107 = .ok (.invokestatic 205, 3) := dk_184 0 205 (dk_at dksX11_feed_4 14 rfl rfl)
theorem dX11_feed_110 : decode cX11_feed 110 = .ok (.i2b, 1) := dk_145 (dk_at dksX11_feed_4 17 rfl rfl)
theorem dX11_feed_111 : decode cX11_feed 111 = .ok (.bastore, 1) := dk_84 (dk_at dksX11_feed_4 18 rfl rfl)
theorem dX11_feed_112 : decode cX11_feed 112 = .ok (.aload_n 0, 1) := dk_42 (dk_at dksX11_feed_4 19 rfl rfl)
theorem dX11_feed_113 : decode cX11_feed 113 = .ok (.dup, 1) := dk_89 (dk_at dksX11_feed_4 20 rfl rfl)
theorem dX11_feed_114 : decode cX11_feed 114 = .ok (.getfield 213, 3) := dk_180 0 213 (dk_at dksX11_feed_4 21 rfl rfl)
theorem dX11_feed_117 : decode cX11_feed 117 = .ok (.iconst 1, 1) := dk_4 (dk_at dksX11_feed_5 0 rfl rfl)
theorem dX11_feed_118 : decode cX11_feed 118 = .ok (.iadd, 1) := dk_96 (dk_at dksX11_feed_5 1 rfl rfl)
theorem dX11_feed_119 : decode cX11_feed 119 = .ok (.putfield 213, 3) := dk_181 0 213 (dk_at dksX11_feed_5 2 rfl rfl)
theorem dX11_feed_122 : decode cX11_feed 122 = .ok (.iinc 5 1, 3) := dk_132 5 1 (dk_at dksX11_feed_5 5 rfl rfl)
theorem dX11_feed_125 : decode cX11_feed 125 = .ok (.goto (-35), 3) := dk_167 255 221 (dk_at dksX11_feed_5 8 rfl rfl)
theorem dX11_feed_128 : decode cX11_feed 128 = .ok (.aload_n 0, 1) := dk_42 (dk_at dksX11_feed_5 11 rfl rfl)
theorem dX11_feed_129 : decode cX11_feed 129 = .ok (.getfield 213, 3) := dk_180 0 213 (dk_at dksX11_feed_5 12 rfl rfl)
theorem dX11_feed_132 : decode cX11_feed 132 = .ok (.ireturn, 1) := dk_172 (dk_at dksX11_feed_5 15 rfl rfl)
abbrev cX11_taped : ByteArray := prog_12_method_45_code
def yX11_taped : MethodName := ⟨RX11, "taped", "(I)I"⟩
def dkwX11_taped_1 : List UInt8 := [42, 180, 0, 111, 27, 51, 17, 0, 255, 126, 167, 0, 4, 2, 172]
abbrev dktX11_taped_1 : List UInt8 := dkwX11_taped_1 ++ []
def dkwX11_taped_0 : List UInt8 := [42, 180, 0, 7, 154, 0, 8, 16, 254, 167, 0, 29, 27, 155, 0, 24, 27, 42, 180, 0, 213, 162, 0, 16]
abbrev dktX11_taped_0 : List UInt8 := dkwX11_taped_0 ++ dktX11_taped_1
theorem dksX11_taped_0 : cX11_taped.data.toList.drop 0 = dktX11_taped_0 := by decide +kernel
theorem dksX11_taped_1 : cX11_taped.data.toList.drop 24 = dktX11_taped_1 := dk_seg dksX11_taped_0 24 rfl rfl
theorem dX11_taped_0 : decode cX11_taped 0 = .ok (.aload_n 0, 1) := dk_42 (dk_at dksX11_taped_0 0 rfl rfl)
theorem dX11_taped_1 : decode cX11_taped 1 = .ok (.getfield 7, 3) := dk_180 0 7 (dk_at dksX11_taped_0 1 rfl rfl)
theorem dX11_taped_4 : decode cX11_taped 4 = .ok (.ifCond .ne 8, 3) := dk_154 0 8 (dk_at dksX11_taped_0 4 rfl rfl)
theorem dX11_taped_7 : decode cX11_taped 7 = .ok (.bipush (-2), 2) := dk_16 254 (dk_at dksX11_taped_0 7 rfl rfl)
theorem dX11_taped_9 : decode cX11_taped 9 = .ok (.goto 29, 3) := dk_167 0 29 (dk_at dksX11_taped_0 9 rfl rfl)
theorem dX11_taped_12 : decode cX11_taped 12 = .ok (.iload_n 1, 1) := dk_27 (dk_at dksX11_taped_0 12 rfl rfl)
theorem dX11_taped_13 : decode cX11_taped 13 = .ok (.ifCond .lt 24, 3) := dk_155 0 24 (dk_at dksX11_taped_0 13 rfl rfl)
theorem dX11_taped_16 : decode cX11_taped 16 = .ok (.iload_n 1, 1) := dk_27 (dk_at dksX11_taped_0 16 rfl rfl)
theorem dX11_taped_17 : decode cX11_taped 17 = .ok (.aload_n 0, 1) := dk_42 (dk_at dksX11_taped_0 17 rfl rfl)
theorem dX11_taped_18 : decode cX11_taped 18 = .ok (.getfield 213, 3) := dk_180 0 213 (dk_at dksX11_taped_0 18 rfl rfl)
theorem dX11_taped_21 : decode cX11_taped 21 = .ok (.if_icmp .ge 16, 3) := dk_162 0 16 (dk_at dksX11_taped_0 21 rfl rfl)
theorem dX11_taped_24 : decode cX11_taped 24 = .ok (.aload_n 0, 1) := dk_42 (dk_at dksX11_taped_1 0 rfl rfl)
theorem dX11_taped_25 : decode cX11_taped 25 = .ok (.getfield 111, 3) := dk_180 0 111 (dk_at dksX11_taped_1 1 rfl rfl)
theorem dX11_taped_28 : decode cX11_taped 28 = .ok (.iload_n 1, 1) := dk_27 (dk_at dksX11_taped_1 4 rfl rfl)
theorem dX11_taped_29 : decode cX11_taped 29 = .ok (.baload, 1) := dk_51 (dk_at dksX11_taped_1 5 rfl rfl)
theorem dX11_taped_30 : decode cX11_taped 30 = .ok (.sipush 255, 3) := dk_17 0 255 (dk_at dksX11_taped_1 6 rfl rfl)
theorem dX11_taped_33 : decode cX11_taped 33 = .ok (.iand, 1) := dk_126 (dk_at dksX11_taped_1 9 rfl rfl)
theorem dX11_taped_34 : decode cX11_taped 34 = .ok (.goto 4, 3) := dk_167 0 4 (dk_at dksX11_taped_1 10 rfl rfl)
theorem dX11_taped_37 : decode cX11_taped 37 = .ok (.iconst (-1), 1) := dk_2 (dk_at dksX11_taped_1 13 rfl rfl)
theorem dX11_taped_38 : decode cX11_taped 38 = .ok (.ireturn, 1) := dk_172 (dk_at dksX11_taped_1 14 rfl rfl)
abbrev cX11_walk : ByteArray := prog_12_method_50_code
def yX11_walk : MethodName := ⟨RX11, "walk", "(IZ)I"⟩
def dkwX11_walk_4 : List UInt8 := [29, 154, 0, 10, 42, 180, 1, 4, 167, 0, 4, 29, 172]
abbrev dktX11_walk_4 : List UInt8 := dkwX11_walk_4 ++ []
def dkwX11_walk_3 : List UInt8 := [154, 0, 19, 42, 182, 1, 10, 153, 0, 12, 42, 28, 182, 1, 17, 62, 167, 255, 239, 42, 3, 181, 0, 213]
abbrev dktX11_walk_3 : List UInt8 := dkwX11_walk_3 ++ dktX11_walk_4
def dkwX11_walk_2 : List UInt8 := [158, 0, 18, 42, 180, 0, 111, 3, 51, 16, 47, 160, 0, 7, 4, 167, 0, 4, 27, 181, 1, 4, 29]
abbrev dktX11_walk_2 : List UInt8 := dkwX11_walk_2 ++ dktX11_walk_3
def dkwX11_walk_1 : List UInt8 := [180, 0, 114, 3, 3, 79, 42, 180, 0, 117, 3, 3, 79, 42, 3, 181, 1, 14, 42, 42, 180, 0, 213]
abbrev dktX11_walk_1 : List UInt8 := dkwX11_walk_1 ++ dktX11_walk_2
def dkwX11_walk_0 : List UInt8 := [42, 180, 0, 7, 154, 0, 6, 16, 254, 172, 42, 27, 182, 0, 216, 62, 42, 3, 181, 0, 254, 42]
abbrev dktX11_walk_0 : List UInt8 := dkwX11_walk_0 ++ dktX11_walk_1
theorem dksX11_walk_0 : cX11_walk.data.toList.drop 0 = dktX11_walk_0 := by decide +kernel
theorem dksX11_walk_1 : cX11_walk.data.toList.drop 22 = dktX11_walk_1 := dk_seg dksX11_walk_0 22 rfl rfl
theorem dksX11_walk_2 : cX11_walk.data.toList.drop 45 = dktX11_walk_2 := dk_seg dksX11_walk_1 23 rfl rfl
theorem dksX11_walk_3 : cX11_walk.data.toList.drop 68 = dktX11_walk_3 := dk_seg dksX11_walk_2 23 rfl rfl
theorem dksX11_walk_4 : cX11_walk.data.toList.drop 92 = dktX11_walk_4 := dk_seg dksX11_walk_3 24 rfl rfl
theorem dX11_walk_0 : decode cX11_walk 0 = .ok (.aload_n 0, 1) := dk_42 (dk_at dksX11_walk_0 0 rfl rfl)
theorem dX11_walk_1 : decode cX11_walk 1 = .ok (.getfield 7, 3) := dk_180 0 7 (dk_at dksX11_walk_0 1 rfl rfl)
theorem dX11_walk_4 : decode cX11_walk 4 = .ok (.ifCond .ne 6, 3) := dk_154 0 6 (dk_at dksX11_walk_0 4 rfl rfl)
theorem dX11_walk_7 : decode cX11_walk 7 = .ok (.bipush (-2), 2) := dk_16 254 (dk_at dksX11_walk_0 7 rfl rfl)
theorem dX11_walk_9 : decode cX11_walk 9 = .ok (.ireturn, 1) := dk_172 (dk_at dksX11_walk_0 9 rfl rfl)
theorem dX11_walk_10 : decode cX11_walk 10 = .ok (.aload_n 0, 1) := dk_42 (dk_at dksX11_walk_0 10 rfl rfl)
theorem dX11_walk_11 : decode cX11_walk 11 = .ok (.iload_n 1, 1) := dk_27 (dk_at dksX11_walk_0 11 rfl rfl)
theorem dX11_walk_12 : decode cX11_walk 12 = .ok (.invokevirtual 216, 3) := dk_182 0 216 (dk_at dksX11_walk_0 12 rfl rfl)
theorem dX11_walk_15 : decode cX11_walk 15 = .ok (.istore_n 3, 1) := dk_62 (dk_at dksX11_walk_0 15 rfl rfl)
theorem dX11_walk_16 : decode cX11_walk 16 = .ok (.aload_n 0, 1) := dk_42 (dk_at dksX11_walk_0 16 rfl rfl)
theorem dX11_walk_17 : decode cX11_walk 17 = .ok (.iconst 0, 1) := dk_3 (dk_at dksX11_walk_0 17 rfl rfl)
theorem dX11_walk_18 : decode cX11_walk 18 = .ok (.putfield 254, 3) := dk_181 0 254 (dk_at dksX11_walk_0 18 rfl rfl)
theorem dX11_walk_21 : decode cX11_walk 21 = .ok (.aload_n 0, 1) := dk_42 (dk_at dksX11_walk_0 21 rfl rfl)
theorem dX11_walk_22 : decode cX11_walk 22 = .ok (.getfield 114, 3) := dk_180 0 114 (dk_at dksX11_walk_1 0 rfl rfl)
theorem dX11_walk_25 : decode cX11_walk 25 = .ok (.iconst 0, 1) := dk_3 (dk_at dksX11_walk_1 3 rfl rfl)
theorem dX11_walk_26 : decode cX11_walk 26 = .ok (.iconst 0, 1) := dk_3 (dk_at dksX11_walk_1 4 rfl rfl)
theorem dX11_walk_27 : decode cX11_walk 27 = .ok (.iastore, 1) := dk_79 (dk_at dksX11_walk_1 5 rfl rfl)
theorem dX11_walk_28 : decode cX11_walk 28 = .ok (.aload_n 0, 1) := dk_42 (dk_at dksX11_walk_1 6 rfl rfl)
theorem dX11_walk_29 : decode cX11_walk 29 = .ok (.getfield 117, 3) := dk_180 0 117 (dk_at dksX11_walk_1 7 rfl rfl)
theorem dX11_walk_32 : decode cX11_walk 32 = .ok (.iconst 0, 1) := dk_3 (dk_at dksX11_walk_1 10 rfl rfl)
theorem dX11_walk_33 : decode cX11_walk 33 = .ok (.iconst 0, 1) := dk_3 (dk_at dksX11_walk_1 11 rfl rfl)
theorem dX11_walk_34 : decode cX11_walk 34 = .ok (.iastore, 1) := dk_79 (dk_at dksX11_walk_1 12 rfl rfl)
theorem dX11_walk_35 : decode cX11_walk 35 = .ok (.aload_n 0, 1) := dk_42 (dk_at dksX11_walk_1 13 rfl rfl)
theorem dX11_walk_36 : decode cX11_walk 36 = .ok (.iconst 0, 1) := dk_3 (dk_at dksX11_walk_1 14 rfl rfl)
theorem dX11_walk_37 : decode cX11_walk 37 = .ok (.putfield 270, 3) := dk_181 1 14 (dk_at dksX11_walk_1 15 rfl rfl)
theorem dX11_walk_40 : decode cX11_walk 40 = .ok (.aload_n 0, 1) := dk_42 (dk_at dksX11_walk_1 18 rfl rfl)
theorem dX11_walk_41 : decode cX11_walk 41 = .ok (.aload_n 0, 1) := dk_42 (dk_at dksX11_walk_1 19 rfl rfl)
theorem dX11_walk_42 : decode cX11_walk 42 = .ok (.getfield 213, 3) := dk_180 0 213 (dk_at dksX11_walk_1 20 rfl rfl)
theorem dX11_walk_45 : decode cX11_walk 45 = .ok (.ifCond .le 18, 3) := dk_158 0 18 (dk_at dksX11_walk_2 0 rfl rfl)
theorem dX11_walk_48 : decode cX11_walk 48 = .ok (.aload_n 0, 1) := dk_42 (dk_at dksX11_walk_2 3 rfl rfl)
theorem dX11_walk_49 : decode cX11_walk 49 = .ok (.getfield 111, 3) := dk_180 0 111 (dk_at dksX11_walk_2 4 rfl rfl)
theorem dX11_walk_52 : decode cX11_walk 52 = .ok (.iconst 0, 1) := dk_3 (dk_at dksX11_walk_2 7 rfl rfl)
theorem dX11_walk_53 : decode cX11_walk 53 = .ok (.baload, 1) := dk_51 (dk_at dksX11_walk_2 8 rfl rfl)
theorem dX11_walk_54 : decode cX11_walk 54 = .ok (.bipush 47, 2) := dk_16 47 (dk_at dksX11_walk_2 9 rfl rfl)
theorem dX11_walk_56 : decode cX11_walk 56 = .ok (.if_icmp .ne 7, 3) := dk_160 0 7 (dk_at dksX11_walk_2 11 rfl rfl)
theorem dX11_walk_59 : decode cX11_walk 59 = .ok (.iconst 1, 1) := dk_4 (dk_at dksX11_walk_2 14 rfl rfl)
theorem dX11_walk_60 : decode cX11_walk 60 = .ok (.goto 4, 3) := dk_167 0 4 (dk_at dksX11_walk_2 15 rfl rfl)
theorem dX11_walk_63 : decode cX11_walk 63 = .ok (.iload_n 1, 1) := dk_27 (dk_at dksX11_walk_2 18 rfl rfl)
theorem dX11_walk_64 : decode cX11_walk 64 = .ok (.putfield 260, 3) := dk_181 1 4 (dk_at dksX11_walk_2 19 rfl rfl)
theorem dX11_walk_67 : decode cX11_walk 67 = .ok (.iload_n 3, 1) := dk_29 (dk_at dksX11_walk_2 22 rfl rfl)
theorem dX11_walk_68 : decode cX11_walk 68 = .ok (.ifCond .ne 19, 3) := dk_154 0 19 (dk_at dksX11_walk_3 0 rfl rfl)
theorem dX11_walk_71 : decode cX11_walk 71 = .ok (.aload_n 0, 1) := dk_42 (dk_at dksX11_walk_3 3 rfl rfl)
theorem dX11_walk_72 : decode cX11_walk 72 = .ok (.invokevirtual 266, 3) := dk_182 1 10 (dk_at dksX11_walk_3 4 rfl rfl)
theorem dX11_walk_75 : decode cX11_walk 75 = .ok (.ifCond .eq 12, 3) := dk_153 0 12 (dk_at dksX11_walk_3 7 rfl rfl)
theorem dX11_walk_78 : decode cX11_walk 78 = .ok (.aload_n 0, 1) := dk_42 (dk_at dksX11_walk_3 10 rfl rfl)
theorem dX11_walk_79 : decode cX11_walk 79 = .ok (.iload_n 2, 1) := dk_28 (dk_at dksX11_walk_3 11 rfl rfl)
theorem dX11_walk_80 : decode cX11_walk 80 = .ok (.invokevirtual 273, 3) := dk_182 1 17 (dk_at dksX11_walk_3 12 rfl rfl)
theorem dX11_walk_83 : decode cX11_walk 83 = .ok (.istore_n 3, 1) := dk_62 (dk_at dksX11_walk_3 15 rfl rfl)
theorem dX11_walk_84 : decode cX11_walk 84 = .ok (.goto (-17), 3) := dk_167 255 239 (dk_at dksX11_walk_3 16 rfl rfl)
theorem dX11_walk_87 : decode cX11_walk 87 = .ok (.aload_n 0, 1) := dk_42 (dk_at dksX11_walk_3 19 rfl rfl)
theorem dX11_walk_88 : decode cX11_walk 88 = .ok (.iconst 0, 1) := dk_3 (dk_at dksX11_walk_3 20 rfl rfl)
theorem dX11_walk_89 : decode cX11_walk 89 = .ok (.putfield 213, 3) := dk_181 0 213 (dk_at dksX11_walk_3 21 rfl rfl)
theorem dX11_walk_92 : decode cX11_walk 92 = .ok (.iload_n 3, 1) := dk_29 (dk_at dksX11_walk_4 0 rfl rfl)
theorem dX11_walk_93 : decode cX11_walk 93 = .ok (.ifCond .ne 10, 3) := dk_154 0 10 (dk_at dksX11_walk_4 1 rfl rfl)
theorem dX11_walk_96 : decode cX11_walk 96 = .ok (.aload_n 0, 1) := dk_42 (dk_at dksX11_walk_4 4 rfl rfl)
theorem dX11_walk_97 : decode cX11_walk 97 = .ok (.getfield 260, 3) := dk_180 1 4 (dk_at dksX11_walk_4 5 rfl rfl)
theorem dX11_walk_100 : decode cX11_walk 100 = .ok (.goto 4, 3) := dk_167 0 4 (dk_at dksX11_walk_4 8 rfl rfl)
theorem dX11_walk_103 : decode cX11_walk 103 = .ok (.iload_n 3, 1) := dk_29 (dk_at dksX11_walk_4 11 rfl rfl)
theorem dX11_walk_104 : decode cX11_walk 104 = .ok (.ireturn, 1) := dk_172 (dk_at dksX11_walk_4 12 rfl rfl)
abbrev cX11_isMore : ByteArray := prog_12_method_47_code
def yX11_isMore : MethodName := ⟨RX11, "isMore", "()Z"⟩
def dkwX11_isMore_2 : List UInt8 := [167, 0, 4, 3, 60, 132, 3, 1, 167, 255, 222, 132, 2, 1, 167, 255, 201, 27, 172]
abbrev dktX11_isMore_2 : List UInt8 := dkwX11_isMore_2 ++ []
def dkwX11_isMore_1 : List UInt8 := [182, 1, 1, 2, 159, 0, 30, 27, 154, 0, 14, 42, 28, 29, 182, 1, 1, 16, 47, 159, 0, 7, 4]
abbrev dktX11_isMore_1 : List UInt8 := dkwX11_isMore_1 ++ dktX11_isMore_2
def dkwX11_isMore_0 : List UInt8 := [3, 60, 3, 61, 28, 42, 180, 0, 254, 163, 0, 53, 42, 180, 0, 117, 28, 46, 62, 42, 28, 29]
abbrev dktX11_isMore_0 : List UInt8 := dkwX11_isMore_0 ++ dktX11_isMore_1
theorem dksX11_isMore_0 : cX11_isMore.data.toList.drop 0 = dktX11_isMore_0 := by decide +kernel
theorem dksX11_isMore_1 : cX11_isMore.data.toList.drop 22 = dktX11_isMore_1 := dk_seg dksX11_isMore_0 22 rfl rfl
theorem dksX11_isMore_2 : cX11_isMore.data.toList.drop 45 = dktX11_isMore_2 := dk_seg dksX11_isMore_1 23 rfl rfl
theorem dX11_isMore_0 : decode cX11_isMore 0 = .ok (.iconst 0, 1) := dk_3 (dk_at dksX11_isMore_0 0 rfl rfl)
theorem dX11_isMore_1 : decode cX11_isMore 1 = .ok (.istore_n 1, 1) := dk_60 (dk_at dksX11_isMore_0 1 rfl rfl)
theorem dX11_isMore_2 : decode cX11_isMore 2 = .ok (.iconst 0, 1) := dk_3 (dk_at dksX11_isMore_0 2 rfl rfl)
theorem dX11_isMore_3 : decode cX11_isMore 3 = .ok (.istore_n 2, 1) := dk_61 (dk_at dksX11_isMore_0 3 rfl rfl)
theorem dX11_isMore_4 : decode cX11_isMore 4 = .ok (.iload_n 2, 1) := dk_28 (dk_at dksX11_isMore_0 4 rfl rfl)
theorem dX11_isMore_5 : decode cX11_isMore 5 = .ok (.aload_n 0, 1) := dk_42 (dk_at dksX11_isMore_0 5 rfl rfl)
theorem dX11_isMore_6 : decode cX11_isMore 6 = .ok (.getfield 254, 3) := dk_180 0 254 (dk_at dksX11_isMore_0 6 rfl rfl)
theorem dX11_isMore_9 : decode cX11_isMore 9 = .ok (.if_icmp .gt 53, 3) := dk_163 0 53 (dk_at dksX11_isMore_0 9 rfl rfl)
theorem dX11_isMore_12 : decode cX11_isMore 12 = .ok (.aload_n 0, 1) := dk_42 (dk_at dksX11_isMore_0 12 rfl rfl)
theorem dX11_isMore_13 : decode cX11_isMore 13 = .ok (.getfield 117, 3) := dk_180 0 117 (dk_at dksX11_isMore_0 13 rfl rfl)
theorem dX11_isMore_16 : decode cX11_isMore 16 = .ok (.iload_n 2, 1) := dk_28 (dk_at dksX11_isMore_0 16 rfl rfl)
theorem dX11_isMore_17 : decode cX11_isMore 17 = .ok (.iaload, 1) := dk_46 (dk_at dksX11_isMore_0 17 rfl rfl)
theorem dX11_isMore_18 : decode cX11_isMore 18 = .ok (.istore_n 3, 1) := dk_62 (dk_at dksX11_isMore_0 18 rfl rfl)
theorem dX11_isMore_19 : decode cX11_isMore 19 = .ok (.aload_n 0, 1) := dk_42 (dk_at dksX11_isMore_0 19 rfl rfl)
theorem dX11_isMore_20 : decode cX11_isMore 20 = .ok (.iload_n 2, 1) := dk_28 (dk_at dksX11_isMore_0 20 rfl rfl)
theorem dX11_isMore_21 : decode cX11_isMore 21 = .ok (.iload_n 3, 1) := dk_29 (dk_at dksX11_isMore_0 21 rfl rfl)
theorem dX11_isMore_22 : decode cX11_isMore 22 = .ok (.invokevirtual 257, 3) := dk_182 1 1 (dk_at dksX11_isMore_1 0 rfl rfl)
theorem dX11_isMore_25 : decode cX11_isMore 25 = .ok (.iconst (-1), 1) := dk_2 (dk_at dksX11_isMore_1 3 rfl rfl)
theorem dX11_isMore_26 : decode cX11_isMore 26 = .ok (.if_icmp .eq 30, 3) := dk_159 0 30 (dk_at dksX11_isMore_1 4 rfl rfl)
theorem dX11_isMore_29 : decode cX11_isMore 29 = .ok (.iload_n 1, 1) := dk_27 (dk_at dksX11_isMore_1 7 rfl rfl)
theorem dX11_isMore_30 : decode cX11_isMore 30 = .ok (.ifCond .ne 14, 3) := dk_154 0 14 (dk_at dksX11_isMore_1 8 rfl rfl)
theorem dX11_isMore_33 : decode cX11_isMore 33 = .ok (.aload_n 0, 1) := dk_42 (dk_at dksX11_isMore_1 11 rfl rfl)
theorem dX11_isMore_34 : decode cX11_isMore 34 = .ok (.iload_n 2, 1) := dk_28 (dk_at dksX11_isMore_1 12 rfl rfl)
theorem dX11_isMore_35 : decode cX11_isMore 35 = .ok (.iload_n 3, 1) := dk_29 (dk_at dksX11_isMore_1 13 rfl rfl)
theorem dX11_isMore_36 : decode cX11_isMore 36 = .ok (.invokevirtual 257, 3) := dk_182 1 1 (dk_at dksX11_isMore_1 14 rfl rfl)
theorem dX11_isMore_39 : decode cX11_isMore 39 = .ok (.bipush 47, 2) := dk_16 47 (dk_at dksX11_isMore_1 17 rfl rfl)
theorem dX11_isMore_41 : decode cX11_isMore 41 = .ok (.if_icmp .eq 7, 3) := dk_159 0 7 (dk_at dksX11_isMore_1 19 rfl rfl)
theorem dX11_isMore_44 : decode cX11_isMore 44 = .ok (.iconst 1, 1) := dk_4 (dk_at dksX11_isMore_1 22 rfl rfl)
theorem dX11_isMore_45 : decode cX11_isMore 45 = .ok (.goto 4, 3) := dk_167 0 4 (dk_at dksX11_isMore_2 0 rfl rfl)
theorem dX11_isMore_48 : decode cX11_isMore 48 = .ok (.iconst 0, 1) := dk_3 (dk_at dksX11_isMore_2 3 rfl rfl)
theorem dX11_isMore_49 : decode cX11_isMore 49 = .ok (.istore_n 1, 1) := dk_60 (dk_at dksX11_isMore_2 4 rfl rfl)
theorem dX11_isMore_50 : decode cX11_isMore 50 = .ok (.iinc 3 1, 3) := dk_132 3 1 (dk_at dksX11_isMore_2 5 rfl rfl)
theorem dX11_isMore_53 : decode cX11_isMore 53 = .ok (.goto (-34), 3) := dk_167 255 222 (dk_at dksX11_isMore_2 8 rfl rfl)
theorem dX11_isMore_56 : decode cX11_isMore 56 = .ok (.iinc 2 1, 3) := dk_132 2 1 (dk_at dksX11_isMore_2 11 rfl rfl)
theorem dX11_isMore_59 : decode cX11_isMore 59 = .ok (.goto (-55), 3) := dk_167 255 201 (dk_at dksX11_isMore_2 14 rfl rfl)
theorem dX11_isMore_62 : decode cX11_isMore 62 = .ok (.iload_n 1, 1) := dk_27 (dk_at dksX11_isMore_2 17 rfl rfl)
theorem dX11_isMore_63 : decode cX11_isMore 63 = .ok (.ireturn, 1) := dk_172 (dk_at dksX11_isMore_2 18 rfl rfl)
abbrev cX11_step : ByteArray := prog_12_method_46_code
def yX11_step : MethodName := ⟨RX11, "step", "(II)I"⟩
def dkwX11_step_2 : List UInt8 := [162, 0, 12, 42, 29, 28, 182, 0, 251, 167, 0, 4, 2, 172]
abbrev dktX11_step_2 : List UInt8 := dkwX11_step_2 ++ []
def dkwX11_step_1 : List UInt8 := [51, 17, 0, 255, 126, 167, 0, 4, 2, 172, 28, 42, 180, 0, 29, 42, 3, 29, 182, 0, 143, 46]
abbrev dktX11_step_1 : List UInt8 := dkwX11_step_1 ++ dktX11_step_2
def dkwX11_step_0 : List UInt8 := [42, 180, 0, 114, 27, 46, 62, 29, 154, 0, 26, 28, 42, 180, 0, 213, 162, 0, 16, 42, 180, 0, 111, 28]
abbrev dktX11_step_0 : List UInt8 := dkwX11_step_0 ++ dktX11_step_1
theorem dksX11_step_0 : cX11_step.data.toList.drop 0 = dktX11_step_0 := by decide +kernel
theorem dksX11_step_1 : cX11_step.data.toList.drop 24 = dktX11_step_1 := dk_seg dksX11_step_0 24 rfl rfl
theorem dksX11_step_2 : cX11_step.data.toList.drop 46 = dktX11_step_2 := dk_seg dksX11_step_1 22 rfl rfl
theorem dX11_step_0 : decode cX11_step 0 = .ok (.aload_n 0, 1) := dk_42 (dk_at dksX11_step_0 0 rfl rfl)
theorem dX11_step_1 : decode cX11_step 1 = .ok (.getfield 114, 3) := dk_180 0 114 (dk_at dksX11_step_0 1 rfl rfl)
theorem dX11_step_4 : decode cX11_step 4 = .ok (.iload_n 1, 1) := dk_27 (dk_at dksX11_step_0 4 rfl rfl)
theorem dX11_step_5 : decode cX11_step 5 = .ok (.iaload, 1) := dk_46 (dk_at dksX11_step_0 5 rfl rfl)
theorem dX11_step_6 : decode cX11_step 6 = .ok (.istore_n 3, 1) := dk_62 (dk_at dksX11_step_0 6 rfl rfl)
theorem dX11_step_7 : decode cX11_step 7 = .ok (.iload_n 3, 1) := dk_29 (dk_at dksX11_step_0 7 rfl rfl)
theorem dX11_step_8 : decode cX11_step 8 = .ok (.ifCond .ne 26, 3) := dk_154 0 26 (dk_at dksX11_step_0 8 rfl rfl)
theorem dX11_step_11 : decode cX11_step 11 = .ok (.iload_n 2, 1) := dk_28 (dk_at dksX11_step_0 11 rfl rfl)
theorem dX11_step_12 : decode cX11_step 12 = .ok (.aload_n 0, 1) := dk_42 (dk_at dksX11_step_0 12 rfl rfl)
theorem dX11_step_13 : decode cX11_step 13 = .ok (.getfield 213, 3) := dk_180 0 213 (dk_at dksX11_step_0 13 rfl rfl)
theorem dX11_step_16 : decode cX11_step 16 = .ok (.if_icmp .ge 16, 3) := dk_162 0 16 (dk_at dksX11_step_0 16 rfl rfl)
theorem dX11_step_19 : decode cX11_step 19 = .ok (.aload_n 0, 1) := dk_42 (dk_at dksX11_step_0 19 rfl rfl)
theorem dX11_step_20 : decode cX11_step 20 = .ok (.getfield 111, 3) := dk_180 0 111 (dk_at dksX11_step_0 20 rfl rfl)
theorem dX11_step_23 : decode cX11_step 23 = .ok (.iload_n 2, 1) := dk_28 (dk_at dksX11_step_0 23 rfl rfl)
theorem dX11_step_24 : decode cX11_step 24 = .ok (.baload, 1) := dk_51 (dk_at dksX11_step_1 0 rfl rfl)
theorem dX11_step_25 : decode cX11_step 25 = .ok (.sipush 255, 3) := dk_17 0 255 (dk_at dksX11_step_1 1 rfl rfl)
theorem dX11_step_28 : decode cX11_step 28 = .ok (.iand, 1) := dk_126 (dk_at dksX11_step_1 4 rfl rfl)
theorem dX11_step_29 : decode cX11_step 29 = .ok (.goto 4, 3) := dk_167 0 4 (dk_at dksX11_step_1 5 rfl rfl)
theorem dX11_step_32 : decode cX11_step 32 = .ok (.iconst (-1), 1) := dk_2 (dk_at dksX11_step_1 8 rfl rfl)
theorem dX11_step_33 : decode cX11_step 33 = .ok (.ireturn, 1) := dk_172 (dk_at dksX11_step_1 9 rfl rfl)
theorem dX11_step_34 : decode cX11_step 34 = .ok (.iload_n 2, 1) := dk_28 (dk_at dksX11_step_1 10 rfl rfl)
theorem dX11_step_35 : decode cX11_step 35 = .ok (.aload_n 0, 1) := dk_42 (dk_at dksX11_step_1 11 rfl rfl)
theorem dX11_step_36 : decode cX11_step 36 = .ok (.getfield 29, 3) := dk_180 0 29 (dk_at dksX11_step_1 12 rfl rfl)
theorem dX11_step_39 : decode cX11_step 39 = .ok (.aload_n 0, 1) := dk_42 (dk_at dksX11_step_1 15 rfl rfl)
theorem dX11_step_40 : decode cX11_step 40 = .ok (.iconst 0, 1) := dk_3 (dk_at dksX11_step_1 16 rfl rfl)
theorem dX11_step_41 : decode cX11_step 41 = .ok (.iload_n 3, 1) := dk_29 (dk_at dksX11_step_1 17 rfl rfl)
theorem dX11_step_42 : decode cX11_step 42 = .ok (.invokevirtual 143, 3) := dk_182 0 143 (dk_at dksX11_step_1 18 rfl rfl)
theorem dX11_step_45 : decode cX11_step 45 = .ok (.iaload, 1) := dk_46 (dk_at dksX11_step_1 21 rfl rfl)
theorem dX11_step_46 : decode cX11_step 46 = .ok (.if_icmp .ge 12, 3) := dk_162 0 12 (dk_at dksX11_step_2 0 rfl rfl)
theorem dX11_step_49 : decode cX11_step 49 = .ok (.aload_n 0, 1) := dk_42 (dk_at dksX11_step_2 3 rfl rfl)
theorem dX11_step_50 : decode cX11_step 50 = .ok (.iload_n 3, 1) := dk_29 (dk_at dksX11_step_2 4 rfl rfl)
theorem dX11_step_51 : decode cX11_step 51 = .ok (.iload_n 2, 1) := dk_28 (dk_at dksX11_step_2 5 rfl rfl)
theorem dX11_step_52 : decode cX11_step 52 = .ok (.invokevirtual 251, 3) := dk_182 0 251 (dk_at dksX11_step_2 6 rfl rfl)
theorem dX11_step_55 : decode cX11_step 55 = .ok (.goto 4, 3) := dk_167 0 4 (dk_at dksX11_step_2 9 rfl rfl)
theorem dX11_step_58 : decode cX11_step 58 = .ok (.iconst (-1), 1) := dk_2 (dk_at dksX11_step_2 12 rfl rfl)
theorem dX11_step_59 : decode cX11_step 59 = .ok (.ireturn, 1) := dk_172 (dk_at dksX11_step_2 13 rfl rfl)
abbrev cX11_byteOf : ByteArray := prog_12_method_74_code
def yX11_byteOf : MethodName := ⟨RX11, "byteOf", "(II)I"⟩
def dkwX11_byteOf_2 : List UInt8 := [17, 0, 255, 126, 172]
abbrev dktX11_byteOf_2 : List UInt8 := dkwX11_byteOf_2 ++ []
def dkwX11_byteOf_1 : List UInt8 := [29, 46, 161, 0, 7, 3, 167, 0, 21, 42, 180, 0, 70, 16, 64, 29, 104, 28, 16, 64, 112, 96, 51]
abbrev dktX11_byteOf_1 : List UInt8 := dkwX11_byteOf_1 ++ dktX11_byteOf_2
def dkwX11_byteOf_0 : List UInt8 := [42, 3, 27, 28, 16, 64, 108, 182, 0, 158, 62, 29, 2, 159, 0, 16, 28, 16, 64, 112, 42, 180, 0, 66]
abbrev dktX11_byteOf_0 : List UInt8 := dkwX11_byteOf_0 ++ dktX11_byteOf_1
theorem dksX11_byteOf_0 : cX11_byteOf.data.toList.drop 0 = dktX11_byteOf_0 := by decide +kernel
theorem dksX11_byteOf_1 : cX11_byteOf.data.toList.drop 24 = dktX11_byteOf_1 := dk_seg dksX11_byteOf_0 24 rfl rfl
theorem dksX11_byteOf_2 : cX11_byteOf.data.toList.drop 47 = dktX11_byteOf_2 := dk_seg dksX11_byteOf_1 23 rfl rfl
theorem dX11_byteOf_0 : decode cX11_byteOf 0 = .ok (.aload_n 0, 1) := dk_42 (dk_at dksX11_byteOf_0 0 rfl rfl)
theorem dX11_byteOf_1 : decode cX11_byteOf 1 = .ok (.iconst 0, 1) := dk_3 (dk_at dksX11_byteOf_0 1 rfl rfl)
theorem dX11_byteOf_2 : decode cX11_byteOf 2 = .ok (.iload_n 1, 1) := dk_27 (dk_at dksX11_byteOf_0 2 rfl rfl)
theorem dX11_byteOf_3 : decode cX11_byteOf 3 = .ok (.iload_n 2, 1) := dk_28 (dk_at dksX11_byteOf_0 3 rfl rfl)
theorem dX11_byteOf_4 : decode cX11_byteOf 4 = .ok (.bipush 64, 2) := dk_16 64 (dk_at dksX11_byteOf_0 4 rfl rfl)
theorem dX11_byteOf_6 : decode cX11_byteOf 6 = .ok (.idiv, 1) := dk_108 (dk_at dksX11_byteOf_0 6 rfl rfl)
theorem dX11_byteOf_7 : decode cX11_byteOf 7 = .ok (.invokevirtual 158, 3) := dk_182 0 158 (dk_at dksX11_byteOf_0 7 rfl rfl)
theorem dX11_byteOf_10 : decode cX11_byteOf 10 = .ok (.istore_n 3, 1) := dk_62 (dk_at dksX11_byteOf_0 10 rfl rfl)
theorem dX11_byteOf_11 : decode cX11_byteOf 11 = .ok (.iload_n 3, 1) := dk_29 (dk_at dksX11_byteOf_0 11 rfl rfl)
theorem dX11_byteOf_12 : decode cX11_byteOf 12 = .ok (.iconst (-1), 1) := dk_2 (dk_at dksX11_byteOf_0 12 rfl rfl)
theorem dX11_byteOf_13 : decode cX11_byteOf 13 = .ok (.if_icmp .eq 16, 3) := dk_159 0 16 (dk_at dksX11_byteOf_0 13 rfl rfl)
theorem dX11_byteOf_16 : decode cX11_byteOf 16 = .ok (.iload_n 2, 1) := dk_28 (dk_at dksX11_byteOf_0 16 rfl rfl)
theorem dX11_byteOf_17 : decode cX11_byteOf 17 = .ok (.bipush 64, 2) := dk_16 64 (dk_at dksX11_byteOf_0 17 rfl rfl)
theorem dX11_byteOf_19 : decode cX11_byteOf 19 = .ok (.irem, 1) := dk_112 (dk_at dksX11_byteOf_0 19 rfl rfl)
theorem dX11_byteOf_20 : decode cX11_byteOf 20 = .ok (.aload_n 0, 1) := dk_42 (dk_at dksX11_byteOf_0 20 rfl rfl)
theorem dX11_byteOf_21 : decode cX11_byteOf 21 = .ok (.getfield 66, 3) := dk_180 0 66 (dk_at dksX11_byteOf_0 21 rfl rfl)
theorem dX11_byteOf_24 : decode cX11_byteOf 24 = .ok (.iload_n 3, 1) := dk_29 (dk_at dksX11_byteOf_1 0 rfl rfl)
theorem dX11_byteOf_25 : decode cX11_byteOf 25 = .ok (.iaload, 1) := dk_46 (dk_at dksX11_byteOf_1 1 rfl rfl)
theorem dX11_byteOf_26 : decode cX11_byteOf 26 = .ok (.if_icmp .lt 7, 3) := dk_161 0 7 (dk_at dksX11_byteOf_1 2 rfl rfl)
theorem dX11_byteOf_29 : decode cX11_byteOf 29 = .ok (.iconst 0, 1) := dk_3 (dk_at dksX11_byteOf_1 5 rfl rfl)
theorem dX11_byteOf_30 : decode cX11_byteOf 30 = .ok (.goto 21, 3) := dk_167 0 21 (dk_at dksX11_byteOf_1 6 rfl rfl)
theorem dX11_byteOf_33 : decode cX11_byteOf 33 = .ok (.aload_n 0, 1) := dk_42 (dk_at dksX11_byteOf_1 9 rfl rfl)
theorem dX11_byteOf_34 : decode cX11_byteOf 34 = .ok (.getfield 70, 3) := dk_180 0 70 (dk_at dksX11_byteOf_1 10 rfl rfl)
theorem dX11_byteOf_37 : decode cX11_byteOf 37 = .ok (.bipush 64, 2) := dk_16 64 (dk_at dksX11_byteOf_1 13 rfl rfl)
theorem dX11_byteOf_39 : decode cX11_byteOf 39 = .ok (.iload_n 3, 1) := dk_29 (dk_at dksX11_byteOf_1 15 rfl rfl)
theorem dX11_byteOf_40 : decode cX11_byteOf 40 = .ok (.imul, 1) := dk_104 (dk_at dksX11_byteOf_1 16 rfl rfl)
theorem dX11_byteOf_41 : decode cX11_byteOf 41 = .ok (.iload_n 2, 1) := dk_28 (dk_at dksX11_byteOf_1 17 rfl rfl)
theorem dX11_byteOf_42 : decode cX11_byteOf 42 = .ok (.bipush 64, 2) := dk_16 64 (dk_at dksX11_byteOf_1 18 rfl rfl)
theorem dX11_byteOf_44 : decode cX11_byteOf 44 = .ok (.irem, 1) := dk_112 (dk_at dksX11_byteOf_1 20 rfl rfl)
theorem dX11_byteOf_45 : decode cX11_byteOf 45 = .ok (.iadd, 1) := dk_96 (dk_at dksX11_byteOf_1 21 rfl rfl)
theorem dX11_byteOf_46 : decode cX11_byteOf 46 = .ok (.baload, 1) := dk_51 (dk_at dksX11_byteOf_1 22 rfl rfl)
theorem dX11_byteOf_47 : decode cX11_byteOf 47 = .ok (.sipush 255, 3) := dk_17 0 255 (dk_at dksX11_byteOf_2 0 rfl rfl)
theorem dX11_byteOf_50 : decode cX11_byteOf 50 = .ok (.iand, 1) := dk_126 (dk_at dksX11_byteOf_2 3 rfl rfl)
theorem dX11_byteOf_51 : decode cX11_byteOf 51 = .ok (.ireturn, 1) := dk_172 (dk_at dksX11_byteOf_2 4 rfl rfl)
abbrev cX11_goPart : ByteArray := prog_12_method_48_code
def yX11_goPart : MethodName := ⟨RX11, "goPart", "(Z)I"⟩
def dkwX11_goPart_18 : List UInt8 := [3, 172]
abbrev dktX11_goPart_18 : List UInt8 := dkwX11_goPart_18 ++ []
def dkwX11_goPart_17 : List UInt8 := [42, 42, 21, 10, 3, 182, 0, 251, 16, 47, 160, 0, 7, 4, 167, 0, 7, 42, 180, 1, 4, 181, 1, 4]
abbrev dktX11_goPart_17 : List UInt8 := dkwX11_goPart_17 ++ dktX11_goPart_18
def dkwX11_goPart_16 : List UInt8 := [181, 0, 254, 42, 180, 0, 114, 42, 180, 0, 254, 21, 10, 79, 42, 180, 0, 117, 42, 180, 0, 254, 3, 79]
abbrev dktX11_goPart_16 : List UInt8 := dkwX11_goPart_16 ++ dktX11_goPart_17
def dkwX11_goPart_15 : List UInt8 := [4, 96, 181, 1, 14, 42, 180, 1, 14, 16, 9, 160, 0, 6, 16, 247, 172, 42, 89, 180, 0, 254, 4, 96]
abbrev dktX11_goPart_15 : List UInt8 := dkwX11_goPart_15 ++ dktX11_goPart_16
def dkwX11_goPart_14 : List UInt8 := [27, 154, 0, 18, 42, 182, 1, 10, 154, 0, 11, 42, 21, 10, 181, 1, 4, 3, 172, 42, 89, 180, 1, 14]
abbrev dktX11_goPart_14 : List UInt8 := dkwX11_goPart_14 ++ dktX11_goPart_15
def dkwX11_goPart_13 : List UInt8 := [180, 0, 42, 21, 9, 46, 54, 10, 42, 180, 0, 26, 42, 3, 21, 10, 182, 0, 143, 46, 6, 160, 0, 14]
abbrev dktX11_goPart_13 : List UInt8 := dkwX11_goPart_13 ++ dktX11_goPart_14
def dkwX11_goPart_12 : List UInt8 := [42, 3, 42, 180, 1, 4, 22, 7, 182, 0, 162, 54, 9, 21, 9, 2, 160, 0, 6, 16, 252, 172, 42]
abbrev dktX11_goPart_12 : List UInt8 := dkwX11_goPart_12 ++ dktX11_goPart_13
def dkwX11_goPart_11 : List UInt8 := [28, 29, 21, 9, 96, 182, 1, 1, 133, 16, 8, 21, 9, 104, 121, 129, 55, 7, 132, 9, 1, 167, 255, 225]
abbrev dktX11_goPart_11 : List UInt8 := dkwX11_goPart_11 ++ dktX11_goPart_12
def dkwX11_goPart_10 : List UInt8 := [16, 8, 164, 0, 6, 16, 253, 172, 9, 55, 7, 3, 54, 9, 21, 9, 21, 6, 162, 0, 30, 22, 7, 42]
abbrev dktX11_goPart_10 : List UInt8 := dkwX11_goPart_10 ++ dktX11_goPart_11
def dkwX11_goPart_9 : List UInt8 := [182, 1, 1, 16, 46, 160, 0, 17, 42, 42, 42, 180, 1, 4, 182, 1, 7, 181, 1, 4, 3, 172, 21, 6]
abbrev dktX11_goPart_9 : List UInt8 := dkwX11_goPart_9 ++ dktX11_goPart_10
def dkwX11_goPart_8 : List UInt8 := [3, 172, 21, 6, 5, 160, 0, 41, 42, 28, 29, 182, 1, 1, 16, 46, 160, 0, 30, 42, 28, 29, 4, 96]
abbrev dktX11_goPart_8 : List UInt8 := dkwX11_goPart_8 ++ dktX11_goPart_9
def dkwX11_goPart_7 : List UInt8 := [172, 21, 4, 29, 100, 54, 6, 21, 6, 4, 160, 0, 16, 42, 28, 29, 182, 1, 1, 16, 46, 160, 0, 5]
abbrev dktX11_goPart_7 : List UInt8 := dkwX11_goPart_7 ++ dktX11_goPart_8
def dkwX11_goPart_6 : List UInt8 := [180, 0, 117, 28, 21, 4, 79, 42, 42, 180, 1, 4, 182, 0, 216, 54, 5, 21, 5, 153, 0, 6, 21, 5]
abbrev dktX11_goPart_6 : List UInt8 := dkwX11_goPart_6 ++ dktX11_goPart_7
def dkwX11_goPart_5 : List UInt8 := [159, 0, 21, 42, 28, 21, 4, 182, 1, 1, 16, 47, 159, 0, 9, 132, 4, 1, 167, 255, 230, 42]
abbrev dktX11_goPart_5 : List UInt8 := dkwX11_goPart_5 ++ dktX11_goPart_6
def dkwX11_goPart_4 : List UInt8 := [42, 180, 0, 254, 61, 42, 180, 0, 117, 28, 46, 62, 29, 54, 4, 42, 28, 21, 4, 182, 1, 1, 2]
abbrev dktX11_goPart_4 : List UInt8 := dkwX11_goPart_4 ++ dktX11_goPart_5
def dkwX11_goPart_3 : List UInt8 := [4, 100, 181, 0, 254, 167, 255, 182, 42, 180, 0, 117, 42, 180, 0, 254, 92, 46, 4, 96, 79, 167, 255, 166]
abbrev dktX11_goPart_3 : List UInt8 := dkwX11_goPart_3 ++ dktX11_goPart_4
def dkwX11_goPart_2 : List UInt8 := [180, 0, 254, 42, 180, 0, 117, 42, 180, 0, 254, 46, 182, 1, 1, 2, 160, 0, 16, 42, 89, 180, 0, 254]
abbrev dktX11_goPart_2 : List UInt8 := dkwX11_goPart_2 ++ dktX11_goPart_3
def dkwX11_goPart_1 : List UInt8 := [180, 0, 254, 42, 180, 0, 117, 42, 180, 0, 254, 46, 182, 1, 1, 16, 47, 160, 0, 53, 42, 42]
abbrev dktX11_goPart_1 : List UInt8 := dkwX11_goPart_1 ++ dktX11_goPart_2
def dkwX11_goPart_0 : List UInt8 := [42, 42, 180, 0, 254, 42, 180, 0, 117, 42, 180, 0, 254, 46, 182, 1, 1, 2, 159, 0, 25, 42, 42]
abbrev dktX11_goPart_0 : List UInt8 := dkwX11_goPart_0 ++ dktX11_goPart_1
theorem dksX11_goPart_0 : cX11_goPart.data.toList.drop 0 = dktX11_goPart_0 := by decide +kernel
theorem dksX11_goPart_1 : cX11_goPart.data.toList.drop 23 = dktX11_goPart_1 := dk_seg dksX11_goPart_0 23 rfl rfl
theorem dksX11_goPart_2 : cX11_goPart.data.toList.drop 45 = dktX11_goPart_2 := dk_seg dksX11_goPart_1 22 rfl rfl
theorem dksX11_goPart_3 : cX11_goPart.data.toList.drop 69 = dktX11_goPart_3 := dk_seg dksX11_goPart_2 24 rfl rfl
theorem dksX11_goPart_4 : cX11_goPart.data.toList.drop 93 = dktX11_goPart_4 := dk_seg dksX11_goPart_3 24 rfl rfl
theorem dksX11_goPart_5 : cX11_goPart.data.toList.drop 116 = dktX11_goPart_5 := dk_seg dksX11_goPart_4 23 rfl rfl
theorem dksX11_goPart_6 : cX11_goPart.data.toList.drop 138 = dktX11_goPart_6 := dk_seg dksX11_goPart_5 22 rfl rfl
theorem dksX11_goPart_7 : cX11_goPart.data.toList.drop 162 = dktX11_goPart_7 := dk_seg dksX11_goPart_6 24 rfl rfl
theorem dksX11_goPart_8 : cX11_goPart.data.toList.drop 186 = dktX11_goPart_8 := dk_seg dksX11_goPart_7 24 rfl rfl
theorem dksX11_goPart_9 : cX11_goPart.data.toList.drop 210 = dktX11_goPart_9 := dk_seg dksX11_goPart_8 24 rfl rfl
theorem dksX11_goPart_10 : cX11_goPart.data.toList.drop 234 = dktX11_goPart_10 := dk_seg dksX11_goPart_9 24 rfl rfl
theorem dksX11_goPart_11 : cX11_goPart.data.toList.drop 258 = dktX11_goPart_11 := dk_seg dksX11_goPart_10 24 rfl rfl
theorem dksX11_goPart_12 : cX11_goPart.data.toList.drop 282 = dktX11_goPart_12 := dk_seg dksX11_goPart_11 24 rfl rfl
theorem dksX11_goPart_13 : cX11_goPart.data.toList.drop 305 = dktX11_goPart_13 := dk_seg dksX11_goPart_12 23 rfl rfl
theorem dksX11_goPart_14 : cX11_goPart.data.toList.drop 329 = dktX11_goPart_14 := dk_seg dksX11_goPart_13 24 rfl rfl
theorem dksX11_goPart_15 : cX11_goPart.data.toList.drop 353 = dktX11_goPart_15 := dk_seg dksX11_goPart_14 24 rfl rfl
theorem dksX11_goPart_16 : cX11_goPart.data.toList.drop 377 = dktX11_goPart_16 := dk_seg dksX11_goPart_15 24 rfl rfl
theorem dksX11_goPart_17 : cX11_goPart.data.toList.drop 401 = dktX11_goPart_17 := dk_seg dksX11_goPart_16 24 rfl rfl
theorem dksX11_goPart_18 : cX11_goPart.data.toList.drop 425 = dktX11_goPart_18 := dk_seg dksX11_goPart_17 24 rfl rfl
theorem dX11_goPart_0 : decode cX11_goPart 0 = .ok (.aload_n 0, 1) := dk_42 (dk_at dksX11_goPart_0 0 rfl rfl)
theorem dX11_goPart_1 : decode cX11_goPart 1 = .ok (.aload_n 0, 1) := dk_42 (dk_at dksX11_goPart_0 1 rfl rfl)
theorem dX11_goPart_2 : decode cX11_goPart 2 = .ok (.getfield 254, 3) := dk_180 0 254 (dk_at dksX11_goPart_0 2 rfl rfl)
theorem dX11_goPart_5 : decode cX11_goPart 5 = .ok (.aload_n 0, 1) := dk_42 (dk_at dksX11_goPart_0 5 rfl rfl)
theorem dX11_goPart_6 : decode cX11_goPart 6 = .ok (.getfield 117, 3) := dk_180 0 117 (dk_at dksX11_goPart_0 6 rfl rfl)
theorem dX11_goPart_9 : decode cX11_goPart 9 = .ok (.aload_n 0, 1) := dk_42 (dk_at dksX11_goPart_0 9 rfl rfl)
theorem dX11_goPart_10 : decode cX11_goPart 10 = .ok (.getfield 254, 3) := dk_180 0 254 (dk_at dksX11_goPart_0 10 rfl rfl)
theorem dX11_goPart_13 : decode cX11_goPart 13 = .ok (.iaload, 1) := dk_46 (dk_at dksX11_goPart_0 13 rfl rfl)
theorem dX11_goPart_14 : decode cX11_goPart 14 = .ok (.invokevirtual 257, 3) := dk_182 1 1 (dk_at dksX11_goPart_0 14 rfl rfl)
theorem dX11_goPart_17 : decode cX11_goPart 17 = .ok (.iconst (-1), 1) := dk_2 (dk_at dksX11_goPart_0 17 rfl rfl)
theorem dX11_goPart_18 : decode cX11_goPart 18 = .ok (.if_icmp .eq 25, 3) := dk_159 0 25 (dk_at dksX11_goPart_0 18 rfl rfl)
theorem dX11_goPart_21 : decode cX11_goPart 21 = .ok (.aload_n 0, 1) := dk_42 (dk_at dksX11_goPart_0 21 rfl rfl)
theorem dX11_goPart_22 : decode cX11_goPart 22 = .ok (.aload_n 0, 1) := dk_42 (dk_at dksX11_goPart_0 22 rfl rfl)
theorem dX11_goPart_23 : decode cX11_goPart 23 = .ok (.getfield 254, 3) := dk_180 0 254 (dk_at dksX11_goPart_1 0 rfl rfl)
theorem dX11_goPart_26 : decode cX11_goPart 26 = .ok (.aload_n 0, 1) := dk_42 (dk_at dksX11_goPart_1 3 rfl rfl)
theorem dX11_goPart_27 : decode cX11_goPart 27 = .ok (.getfield 117, 3) := dk_180 0 117 (dk_at dksX11_goPart_1 4 rfl rfl)
theorem dX11_goPart_30 : decode cX11_goPart 30 = .ok (.aload_n 0, 1) := dk_42 (dk_at dksX11_goPart_1 7 rfl rfl)
theorem dX11_goPart_31 : decode cX11_goPart 31 = .ok (.getfield 254, 3) := dk_180 0 254 (dk_at dksX11_goPart_1 8 rfl rfl)
theorem dX11_goPart_34 : decode cX11_goPart 34 = .ok (.iaload, 1) := dk_46 (dk_at dksX11_goPart_1 11 rfl rfl)
theorem dX11_goPart_35 : decode cX11_goPart 35 = .ok (.invokevirtual 257, 3) := dk_182 1 1 (dk_at dksX11_goPart_1 12 rfl rfl)
theorem dX11_goPart_38 : decode cX11_goPart 38 = .ok (.bipush 47, 2) := dk_16 47 (dk_at dksX11_goPart_1 15 rfl rfl)
theorem dX11_goPart_40 : decode cX11_goPart 40 = .ok (.if_icmp .ne 53, 3) := dk_160 0 53 (dk_at dksX11_goPart_1 17 rfl rfl)
theorem dX11_goPart_43 : decode cX11_goPart 43 = .ok (.aload_n 0, 1) := dk_42 (dk_at dksX11_goPart_1 20 rfl rfl)
theorem dX11_goPart_44 : decode cX11_goPart 44 = .ok (.aload_n 0, 1) := dk_42 (dk_at dksX11_goPart_1 21 rfl rfl)
theorem dX11_goPart_45 : decode cX11_goPart 45 = .ok (.getfield 254, 3) := dk_180 0 254 (dk_at dksX11_goPart_2 0 rfl rfl)
theorem dX11_goPart_48 : decode cX11_goPart 48 = .ok (.aload_n 0, 1) := dk_42 (dk_at dksX11_goPart_2 3 rfl rfl)
theorem dX11_goPart_49 : decode cX11_goPart 49 = .ok (.getfield 117, 3) := dk_180 0 117 (dk_at dksX11_goPart_2 4 rfl rfl)
theorem dX11_goPart_52 : decode cX11_goPart 52 = .ok (.aload_n 0, 1) := dk_42 (dk_at dksX11_goPart_2 7 rfl rfl)
theorem dX11_goPart_53 : decode cX11_goPart 53 = .ok (.getfield 254, 3) := dk_180 0 254 (dk_at dksX11_goPart_2 8 rfl rfl)
theorem dX11_goPart_56 : decode cX11_goPart 56 = .ok (.iaload, 1) := dk_46 (dk_at dksX11_goPart_2 11 rfl rfl)
theorem dX11_goPart_57 : decode cX11_goPart 57 = .ok (.invokevirtual 257, 3) := dk_182 1 1 (dk_at dksX11_goPart_2 12 rfl rfl)
theorem dX11_goPart_60 : decode cX11_goPart 60 = .ok (.iconst (-1), 1) := dk_2 (dk_at dksX11_goPart_2 15 rfl rfl)
theorem dX11_goPart_61 : decode cX11_goPart 61 = .ok (.if_icmp .ne 16, 3) := dk_160 0 16 (dk_at dksX11_goPart_2 16 rfl rfl)
theorem dX11_goPart_64 : decode cX11_goPart 64 = .ok (.aload_n 0, 1) := dk_42 (dk_at dksX11_goPart_2 19 rfl rfl)
theorem dX11_goPart_65 : decode cX11_goPart 65 = .ok (.dup, 1) := dk_89 (dk_at dksX11_goPart_2 20 rfl rfl)
theorem dX11_goPart_66 : decode cX11_goPart 66 = .ok (.getfield 254, 3) := dk_180 0 254 (dk_at dksX11_goPart_2 21 rfl rfl)
theorem dX11_goPart_69 : decode cX11_goPart 69 = .ok (.iconst 1, 1) := dk_4 (dk_at dksX11_goPart_3 0 rfl rfl)
theorem dX11_goPart_70 : decode cX11_goPart 70 = .ok (.isub, 1) := dk_100 (dk_at dksX11_goPart_3 1 rfl rfl)
theorem dX11_goPart_71 : decode cX11_goPart 71 = .ok (.putfield 254, 3) := dk_181 0 254 (dk_at dksX11_goPart_3 2 rfl rfl)
theorem dX11_goPart_74 : decode cX11_goPart 74 = .ok (.goto (-74), 3) := dk_167 255 182 (dk_at dksX11_goPart_3 5 rfl rfl)
theorem dX11_goPart_77 : decode cX11_goPart 77 = .ok (.aload_n 0, 1) := dk_42 (dk_at dksX11_goPart_3 8 rfl rfl)
theorem dX11_goPart_78 : decode cX11_goPart 78 = .ok (.getfield 117, 3) := dk_180 0 117 (dk_at dksX11_goPart_3 9 rfl rfl)
theorem dX11_goPart_81 : decode cX11_goPart 81 = .ok (.aload_n 0, 1) := dk_42 (dk_at dksX11_goPart_3 12 rfl rfl)
theorem dX11_goPart_82 : decode cX11_goPart 82 = .ok (.getfield 254, 3) := dk_180 0 254 (dk_at dksX11_goPart_3 13 rfl rfl)
theorem dX11_goPart_85 : decode cX11_goPart 85 = .ok (.dup2, 1) := dk_92 (dk_at dksX11_goPart_3 16 rfl rfl)
theorem dX11_goPart_86 : decode cX11_goPart 86 = .ok (.iaload, 1) := dk_46 (dk_at dksX11_goPart_3 17 rfl rfl)
theorem dX11_goPart_87 : decode cX11_goPart 87 = .ok (.iconst 1, 1) := dk_4 (dk_at dksX11_goPart_3 18 rfl rfl)
theorem dX11_goPart_88 : decode cX11_goPart 88 = .ok (.iadd, 1) := dk_96 (dk_at dksX11_goPart_3 19 rfl rfl)
theorem dX11_goPart_89 : decode cX11_goPart 89 = .ok (.iastore, 1) := dk_79 (dk_at dksX11_goPart_3 20 rfl rfl)
theorem dX11_goPart_90 : decode cX11_goPart 90 = .ok (.goto (-90), 3) := dk_167 255 166 (dk_at dksX11_goPart_3 21 rfl rfl)
theorem dX11_goPart_93 : decode cX11_goPart 93 = .ok (.aload_n 0, 1) := dk_42 (dk_at dksX11_goPart_4 0 rfl rfl)
theorem dX11_goPart_94 : decode cX11_goPart 94 = .ok (.getfield 254, 3) := dk_180 0 254 (dk_at dksX11_goPart_4 1 rfl rfl)
theorem dX11_goPart_97 : decode cX11_goPart 97 = .ok (.istore_n 2, 1) := dk_61 (dk_at dksX11_goPart_4 4 rfl rfl)
theorem dX11_goPart_98 : decode cX11_goPart 98 = .ok (.aload_n 0, 1) := dk_42 (dk_at dksX11_goPart_4 5 rfl rfl)
theorem dX11_goPart_99 : decode cX11_goPart 99 = .ok (.getfield 117, 3) := dk_180 0 117 (dk_at dksX11_goPart_4 6 rfl rfl)
theorem dX11_goPart_102 : decode cX11_goPart 102 = .ok (.iload_n 2, 1) := dk_28 (dk_at dksX11_goPart_4 9 rfl rfl)
theorem dX11_goPart_103 : decode cX11_goPart 103 = .ok (.iaload, 1) := dk_46 (dk_at dksX11_goPart_4 10 rfl rfl)
theorem dX11_goPart_104 : decode cX11_goPart 104 = .ok (.istore_n 3, 1) := dk_62 (dk_at dksX11_goPart_4 11 rfl rfl)
theorem dX11_goPart_105 : decode cX11_goPart 105 = .ok (.iload_n 3, 1) := dk_29 (dk_at dksX11_goPart_4 12 rfl rfl)
theorem dX11_goPart_106 : decode cX11_goPart 106 = .ok (.istore 4, 2) := dk_54 4 (dk_at dksX11_goPart_4 13 rfl rfl)
theorem dX11_goPart_108 : decode cX11_goPart 108 = .ok (.aload_n 0, 1) := dk_42 (dk_at dksX11_goPart_4 15 rfl rfl)
theorem dX11_goPart_109 : decode cX11_goPart 109 = .ok (.iload_n 2, 1) := dk_28 (dk_at dksX11_goPart_4 16 rfl rfl)
theorem dX11_goPart_110 : decode cX11_goPart 110 = .ok (.iload 4, 2) := dk_21 4 (dk_at dksX11_goPart_4 17 rfl rfl)
theorem dX11_goPart_112 : decode cX11_goPart 112 = .ok (.invokevirtual 257, 3) := dk_182 1 1 (dk_at dksX11_goPart_4 19 rfl rfl)
theorem dX11_goPart_115 : decode cX11_goPart 115 = .ok (.iconst (-1), 1) := dk_2 (dk_at dksX11_goPart_4 22 rfl rfl)
theorem dX11_goPart_116 : decode cX11_goPart 116 = .ok (.if_icmp .eq 21, 3) := dk_159 0 21 (dk_at dksX11_goPart_5 0 rfl rfl)
theorem dX11_goPart_119 : decode cX11_goPart 119 = .ok (.aload_n 0, 1) := dk_42 (dk_at dksX11_goPart_5 3 rfl rfl)
theorem dX11_goPart_120 : decode cX11_goPart 120 = .ok (.iload_n 2, 1) := dk_28 (dk_at dksX11_goPart_5 4 rfl rfl)
theorem dX11_goPart_121 : decode cX11_goPart 121 = .ok (.iload 4, 2) := dk_21 4 (dk_at dksX11_goPart_5 5 rfl rfl)
theorem dX11_goPart_123 : decode cX11_goPart 123 = .ok (.invokevirtual 257, 3) := dk_182 1 1 (dk_at dksX11_goPart_5 7 rfl rfl)
theorem dX11_goPart_126 : decode cX11_goPart 126 = .ok (.bipush 47, 2) := dk_16 47 (dk_at dksX11_goPart_5 10 rfl rfl)
theorem dX11_goPart_128 : decode cX11_goPart 128 = .ok (.if_icmp .eq 9, 3) := dk_159 0 9 (dk_at dksX11_goPart_5 12 rfl rfl)
theorem dX11_goPart_131 : decode cX11_goPart 131 = .ok (.iinc 4 1, 3) := dk_132 4 1 (dk_at dksX11_goPart_5 15 rfl rfl)
theorem dX11_goPart_134 : decode cX11_goPart 134 = .ok (.goto (-26), 3) := dk_167 255 230 (dk_at dksX11_goPart_5 18 rfl rfl)
theorem dX11_goPart_137 : decode cX11_goPart 137 = .ok (.aload_n 0, 1) := dk_42 (dk_at dksX11_goPart_5 21 rfl rfl)
theorem dX11_goPart_138 : decode cX11_goPart 138 = .ok (.getfield 117, 3) := dk_180 0 117 (dk_at dksX11_goPart_6 0 rfl rfl)
theorem dX11_goPart_141 : decode cX11_goPart 141 = .ok (.iload_n 2, 1) := dk_28 (dk_at dksX11_goPart_6 3 rfl rfl)
theorem dX11_goPart_142 : decode cX11_goPart 142 = .ok (.iload 4, 2) := dk_21 4 (dk_at dksX11_goPart_6 4 rfl rfl)
theorem dX11_goPart_144 : decode cX11_goPart 144 = .ok (.iastore, 1) := dk_79 (dk_at dksX11_goPart_6 6 rfl rfl)
theorem dX11_goPart_145 : decode cX11_goPart 145 = .ok (.aload_n 0, 1) := dk_42 (dk_at dksX11_goPart_6 7 rfl rfl)
theorem dX11_goPart_146 : decode cX11_goPart 146 = .ok (.aload_n 0, 1) := dk_42 (dk_at dksX11_goPart_6 8 rfl rfl)
theorem dX11_goPart_147 : decode cX11_goPart 147 = .ok (.getfield 260, 3) := dk_180 1 4 (dk_at dksX11_goPart_6 9 rfl rfl)
theorem dX11_goPart_150 : decode cX11_goPart 150 = .ok (.invokevirtual 216, 3) := dk_182 0 216 (dk_at dksX11_goPart_6 12 rfl rfl)
theorem dX11_goPart_153 : decode cX11_goPart 153 = .ok (.istore 5, 2) := dk_54 5 (dk_at dksX11_goPart_6 15 rfl rfl)
theorem dX11_goPart_155 : decode cX11_goPart 155 = .ok (.iload 5, 2) := dk_21 5 (dk_at dksX11_goPart_6 17 rfl rfl)
theorem dX11_goPart_157 : decode cX11_goPart 157 = .ok (.ifCond .eq 6, 3) := dk_153 0 6 (dk_at dksX11_goPart_6 19 rfl rfl)
theorem dX11_goPart_160 : decode cX11_goPart 160 = .ok (.iload 5, 2) := dk_21 5 (dk_at dksX11_goPart_6 22 rfl rfl)
theorem dX11_goPart_162 : decode cX11_goPart 162 = .ok (.ireturn, 1) := dk_172 (dk_at dksX11_goPart_7 0 rfl rfl)
theorem dX11_goPart_163 : decode cX11_goPart 163 = .ok (.iload 4, 2) := dk_21 4 (dk_at dksX11_goPart_7 1 rfl rfl)
theorem dX11_goPart_165 : decode cX11_goPart 165 = .ok (.iload_n 3, 1) := dk_29 (dk_at dksX11_goPart_7 3 rfl rfl)
theorem dX11_goPart_166 : decode cX11_goPart 166 = .ok (.isub, 1) := dk_100 (dk_at dksX11_goPart_7 4 rfl rfl)
theorem dX11_goPart_167 : decode cX11_goPart 167 = .ok (.istore 6, 2) := dk_54 6 (dk_at dksX11_goPart_7 5 rfl rfl)
theorem dX11_goPart_169 : decode cX11_goPart 169 = .ok (.iload 6, 2) := dk_21 6 (dk_at dksX11_goPart_7 7 rfl rfl)
theorem dX11_goPart_171 : decode cX11_goPart 171 = .ok (.iconst 1, 1) := dk_4 (dk_at dksX11_goPart_7 9 rfl rfl)
theorem dX11_goPart_172 : decode cX11_goPart 172 = .ok (.if_icmp .ne 16, 3) := dk_160 0 16 (dk_at dksX11_goPart_7 10 rfl rfl)
theorem dX11_goPart_175 : decode cX11_goPart 175 = .ok (.aload_n 0, 1) := dk_42 (dk_at dksX11_goPart_7 13 rfl rfl)
theorem dX11_goPart_176 : decode cX11_goPart 176 = .ok (.iload_n 2, 1) := dk_28 (dk_at dksX11_goPart_7 14 rfl rfl)
theorem dX11_goPart_177 : decode cX11_goPart 177 = .ok (.iload_n 3, 1) := dk_29 (dk_at dksX11_goPart_7 15 rfl rfl)
theorem dX11_goPart_178 : decode cX11_goPart 178 = .ok (.invokevirtual 257, 3) := dk_182 1 1 (dk_at dksX11_goPart_7 16 rfl rfl)
theorem dX11_goPart_181 : decode cX11_goPart 181 = .ok (.bipush 46, 2) := dk_16 46 (dk_at dksX11_goPart_7 19 rfl rfl)
theorem dX11_goPart_183 : decode cX11_goPart 183 = .ok (.if_icmp .ne 5, 3) := dk_160 0 5 (dk_at dksX11_goPart_7 21 rfl rfl)
theorem dX11_goPart_186 : decode cX11_goPart 186 = .ok (.iconst 0, 1) := dk_3 (dk_at dksX11_goPart_8 0 rfl rfl)
theorem dX11_goPart_187 : decode cX11_goPart 187 = .ok (.ireturn, 1) := dk_172 (dk_at dksX11_goPart_8 1 rfl rfl)
theorem dX11_goPart_188 : decode cX11_goPart 188 = .ok (.iload 6, 2) := dk_21 6 (dk_at dksX11_goPart_8 2 rfl rfl)
theorem dX11_goPart_190 : decode cX11_goPart 190 = .ok (.iconst 2, 1) := dk_5 (dk_at dksX11_goPart_8 4 rfl rfl)
theorem dX11_goPart_191 : decode cX11_goPart 191 = .ok (.if_icmp .ne 41, 3) := dk_160 0 41 (dk_at dksX11_goPart_8 5 rfl rfl)
theorem dX11_goPart_194 : decode cX11_goPart 194 = .ok (.aload_n 0, 1) := dk_42 (dk_at dksX11_goPart_8 8 rfl rfl)
theorem dX11_goPart_195 : decode cX11_goPart 195 = .ok (.iload_n 2, 1) := dk_28 (dk_at dksX11_goPart_8 9 rfl rfl)
theorem dX11_goPart_196 : decode cX11_goPart 196 = .ok (.iload_n 3, 1) := dk_29 (dk_at dksX11_goPart_8 10 rfl rfl)
theorem dX11_goPart_197 : decode cX11_goPart 197 = .ok (.invokevirtual 257, 3) := dk_182 1 1 (dk_at dksX11_goPart_8 11 rfl rfl)
theorem dX11_goPart_200 : decode cX11_goPart 200 = .ok (.bipush 46, 2) := dk_16 46 (dk_at dksX11_goPart_8 14 rfl rfl)
theorem dX11_goPart_202 : decode cX11_goPart 202 = .ok (.if_icmp .ne 30, 3) := dk_160 0 30 (dk_at dksX11_goPart_8 16 rfl rfl)
theorem dX11_goPart_205 : decode cX11_goPart 205 = .ok (.aload_n 0, 1) := dk_42 (dk_at dksX11_goPart_8 19 rfl rfl)
theorem dX11_goPart_206 : decode cX11_goPart 206 = .ok (.iload_n 2, 1) := dk_28 (dk_at dksX11_goPart_8 20 rfl rfl)
theorem dX11_goPart_207 : decode cX11_goPart 207 = .ok (.iload_n 3, 1) := dk_29 (dk_at dksX11_goPart_8 21 rfl rfl)
theorem dX11_goPart_208 : decode cX11_goPart 208 = .ok (.iconst 1, 1) := dk_4 (dk_at dksX11_goPart_8 22 rfl rfl)
theorem dX11_goPart_209 : decode cX11_goPart 209 = .ok (.iadd, 1) := dk_96 (dk_at dksX11_goPart_8 23 rfl rfl)
theorem dX11_goPart_210 : decode cX11_goPart 210 = .ok (.invokevirtual 257, 3) := dk_182 1 1 (dk_at dksX11_goPart_9 0 rfl rfl)
theorem dX11_goPart_213 : decode cX11_goPart 213 = .ok (.bipush 46, 2) := dk_16 46 (dk_at dksX11_goPart_9 3 rfl rfl)
theorem dX11_goPart_215 : decode cX11_goPart 215 = .ok (.if_icmp .ne 17, 3) := dk_160 0 17 (dk_at dksX11_goPart_9 5 rfl rfl)
theorem dX11_goPart_218 : decode cX11_goPart 218 = .ok (.aload_n 0, 1) := dk_42 (dk_at dksX11_goPart_9 8 rfl rfl)
theorem dX11_goPart_219 : decode cX11_goPart 219 = .ok (.aload_n 0, 1) := dk_42 (dk_at dksX11_goPart_9 9 rfl rfl)
theorem dX11_goPart_220 : decode cX11_goPart 220 = .ok (.aload_n 0, 1) := dk_42 (dk_at dksX11_goPart_9 10 rfl rfl)
theorem dX11_goPart_221 : decode cX11_goPart 221 = .ok (.getfield 260, 3) := dk_180 1 4 (dk_at dksX11_goPart_9 11 rfl rfl)
theorem dX11_goPart_224 : decode cX11_goPart 224 = .ok (.invokevirtual 263, 3) := dk_182 1 7 (dk_at dksX11_goPart_9 14 rfl rfl)
theorem dX11_goPart_227 : decode cX11_goPart 227 = .ok (.putfield 260, 3) := dk_181 1 4 (dk_at dksX11_goPart_9 17 rfl rfl)
theorem dX11_goPart_230 : decode cX11_goPart 230 = .ok (.iconst 0, 1) := dk_3 (dk_at dksX11_goPart_9 20 rfl rfl)
theorem dX11_goPart_231 : decode cX11_goPart 231 = .ok (.ireturn, 1) := dk_172 (dk_at dksX11_goPart_9 21 rfl rfl)
theorem dX11_goPart_232 : decode cX11_goPart 232 = .ok (.iload 6, 2) := dk_21 6 (dk_at dksX11_goPart_9 22 rfl rfl)
theorem dX11_goPart_234 : decode cX11_goPart 234 = .ok (.bipush 8, 2) := dk_16 8 (dk_at dksX11_goPart_10 0 rfl rfl)
theorem dX11_goPart_236 : decode cX11_goPart 236 = .ok (.if_icmp .le 6, 3) := dk_164 0 6 (dk_at dksX11_goPart_10 2 rfl rfl)
theorem dX11_goPart_239 : decode cX11_goPart 239 = .ok (.bipush (-3), 2) := dk_16 253 (dk_at dksX11_goPart_10 5 rfl rfl)
theorem dX11_goPart_241 : decode cX11_goPart 241 = .ok (.ireturn, 1) := dk_172 (dk_at dksX11_goPart_10 7 rfl rfl)
theorem dX11_goPart_242 : decode cX11_goPart 242 = .ok (.lconst 0, 1) := dk_9 (dk_at dksX11_goPart_10 8 rfl rfl)
theorem dX11_goPart_243 : decode cX11_goPart 243 = .ok (.lstore 7, 2) := dk_55 7 (dk_at dksX11_goPart_10 9 rfl rfl)
theorem dX11_goPart_245 : decode cX11_goPart 245 = .ok (.iconst 0, 1) := dk_3 (dk_at dksX11_goPart_10 11 rfl rfl)
theorem dX11_goPart_246 : decode cX11_goPart 246 = .ok (.istore 9, 2) := dk_54 9 (dk_at dksX11_goPart_10 12 rfl rfl)
theorem dX11_goPart_248 : decode cX11_goPart 248 = .ok (.iload 9, 2) := dk_21 9 (dk_at dksX11_goPart_10 14 rfl rfl)
theorem dX11_goPart_250 : decode cX11_goPart 250 = .ok (.iload 6, 2) := dk_21 6 (dk_at dksX11_goPart_10 16 rfl rfl)
theorem dX11_goPart_252 : decode cX11_goPart 252 = .ok (.if_icmp .ge 30, 3) := dk_162 0 30 (dk_at dksX11_goPart_10 18 rfl rfl)
theorem dX11_goPart_255 : decode cX11_goPart 255 = .ok (.lload 7, 2) := dk_22 7 (dk_at dksX11_goPart_10 21 rfl rfl)
theorem dX11_goPart_257 : decode cX11_goPart 257 = .ok (.aload_n 0, 1) := dk_42 (dk_at dksX11_goPart_10 23 rfl rfl)
theorem dX11_goPart_258 : decode cX11_goPart 258 = .ok (.iload_n 2, 1) := dk_28 (dk_at dksX11_goPart_11 0 rfl rfl)
theorem dX11_goPart_259 : decode cX11_goPart 259 = .ok (.iload_n 3, 1) := dk_29 (dk_at dksX11_goPart_11 1 rfl rfl)
theorem dX11_goPart_260 : decode cX11_goPart 260 = .ok (.iload 9, 2) := dk_21 9 (dk_at dksX11_goPart_11 2 rfl rfl)
theorem dX11_goPart_262 : decode cX11_goPart 262 = .ok (.iadd, 1) := dk_96 (dk_at dksX11_goPart_11 4 rfl rfl)
theorem dX11_goPart_263 : decode cX11_goPart 263 = .ok (.invokevirtual 257, 3) := dk_182 1 1 (dk_at dksX11_goPart_11 5 rfl rfl)
theorem dX11_goPart_266 : decode cX11_goPart 266 = .ok (.i2l, 1) := dk_133 (dk_at dksX11_goPart_11 8 rfl rfl)
theorem dX11_goPart_267 : decode cX11_goPart 267 = .ok (.bipush 8, 2) := dk_16 8 (dk_at dksX11_goPart_11 9 rfl rfl)
theorem dX11_goPart_269 : decode cX11_goPart 269 = .ok (.iload 9, 2) := dk_21 9 (dk_at dksX11_goPart_11 11 rfl rfl)
theorem dX11_goPart_271 : decode cX11_goPart 271 = .ok (.imul, 1) := dk_104 (dk_at dksX11_goPart_11 13 rfl rfl)
theorem dX11_goPart_272 : decode cX11_goPart 272 = .ok (.lshl, 1) := dk_121 (dk_at dksX11_goPart_11 14 rfl rfl)
theorem dX11_goPart_273 : decode cX11_goPart 273 = .ok (.lor, 1) := dk_129 (dk_at dksX11_goPart_11 15 rfl rfl)
theorem dX11_goPart_274 : decode cX11_goPart 274 = .ok (.lstore 7, 2) := dk_55 7 (dk_at dksX11_goPart_11 16 rfl rfl)
theorem dX11_goPart_276 : decode cX11_goPart 276 = .ok (.iinc 9 1, 3) := dk_132 9 1 (dk_at dksX11_goPart_11 18 rfl rfl)
theorem dX11_goPart_279 : decode cX11_goPart 279 = .ok (.goto (-31), 3) := dk_167 255 225 (dk_at dksX11_goPart_11 21 rfl rfl)
theorem dX11_goPart_282 : decode cX11_goPart 282 = .ok (.aload_n 0, 1) := dk_42 (dk_at dksX11_goPart_12 0 rfl rfl)
theorem dX11_goPart_283 : decode cX11_goPart 283 = .ok (.iconst 0, 1) := dk_3 (dk_at dksX11_goPart_12 1 rfl rfl)
theorem dX11_goPart_284 : decode cX11_goPart 284 = .ok (.aload_n 0, 1) := dk_42 (dk_at dksX11_goPart_12 2 rfl rfl)
theorem dX11_goPart_285 : decode cX11_goPart 285 = .ok (.getfield 260, 3) := dk_180 1 4 (dk_at dksX11_goPart_12 3 rfl rfl)
theorem dX11_goPart_288 : decode cX11_goPart 288 = .ok (.lload 7, 2) := dk_22 7 (dk_at dksX11_goPart_12 6 rfl rfl)
theorem dX11_goPart_290 : decode cX11_goPart 290 = .ok (.invokevirtual 162, 3) := dk_182 0 162 (dk_at dksX11_goPart_12 8 rfl rfl)
theorem dX11_goPart_293 : decode cX11_goPart 293 = .ok (.istore 9, 2) := dk_54 9 (dk_at dksX11_goPart_12 11 rfl rfl)
theorem dX11_goPart_295 : decode cX11_goPart 295 = .ok (.iload 9, 2) := dk_21 9 (dk_at dksX11_goPart_12 13 rfl rfl)
theorem dX11_goPart_297 : decode cX11_goPart 297 = .ok (.iconst (-1), 1) := dk_2 (dk_at dksX11_goPart_12 15 rfl rfl)
theorem dX11_goPart_298 : decode cX11_goPart 298 = .ok (.if_icmp .ne 6, 3) := dk_160 0 6 (dk_at dksX11_goPart_12 16 rfl rfl)
theorem dX11_goPart_301 : decode cX11_goPart 301 = .ok (.bipush (-4), 2) := dk_16 252 (dk_at dksX11_goPart_12 19 rfl rfl)
theorem dX11_goPart_303 : decode cX11_goPart 303 = .ok (.ireturn, 1) := dk_172 (dk_at dksX11_goPart_12 21 rfl rfl)
theorem dX11_goPart_304 : decode cX11_goPart 304 = .ok (.aload_n 0, 1) := dk_42 (dk_at dksX11_goPart_12 22 rfl rfl)
theorem dX11_goPart_305 : decode cX11_goPart 305 = .ok (.getfield 42, 3) := dk_180 0 42 (dk_at dksX11_goPart_13 0 rfl rfl)
theorem dX11_goPart_308 : decode cX11_goPart 308 = .ok (.iload 9, 2) := dk_21 9 (dk_at dksX11_goPart_13 3 rfl rfl)
theorem dX11_goPart_310 : decode cX11_goPart 310 = .ok (.iaload, 1) := dk_46 (dk_at dksX11_goPart_13 5 rfl rfl)
theorem dX11_goPart_311 : decode cX11_goPart 311 = .ok (.istore 10, 2) := dk_54 10 (dk_at dksX11_goPart_13 6 rfl rfl)
theorem dX11_goPart_313 : decode cX11_goPart 313 = .ok (.aload_n 0, 1) := dk_42 (dk_at dksX11_goPart_13 8 rfl rfl)
theorem dX11_goPart_314 : decode cX11_goPart 314 = .ok (.getfield 26, 3) := dk_180 0 26 (dk_at dksX11_goPart_13 9 rfl rfl)
theorem dX11_goPart_317 : decode cX11_goPart 317 = .ok (.aload_n 0, 1) := dk_42 (dk_at dksX11_goPart_13 12 rfl rfl)
theorem dX11_goPart_318 : decode cX11_goPart 318 = .ok (.iconst 0, 1) := dk_3 (dk_at dksX11_goPart_13 13 rfl rfl)
theorem dX11_goPart_319 : decode cX11_goPart 319 = .ok (.iload 10, 2) := dk_21 10 (dk_at dksX11_goPart_13 14 rfl rfl)
theorem dX11_goPart_321 : decode cX11_goPart 321 = .ok (.invokevirtual 143, 3) := dk_182 0 143 (dk_at dksX11_goPart_13 16 rfl rfl)
theorem dX11_goPart_324 : decode cX11_goPart 324 = .ok (.iaload, 1) := dk_46 (dk_at dksX11_goPart_13 19 rfl rfl)
theorem dX11_goPart_325 : decode cX11_goPart 325 = .ok (.iconst 3, 1) := dk_6 (dk_at dksX11_goPart_13 20 rfl rfl)
theorem dX11_goPart_326 : decode cX11_goPart 326 = .ok (.if_icmp .ne 14, 3) := dk_160 0 14 (dk_at dksX11_goPart_13 21 rfl rfl)
theorem dX11_goPart_329 : decode cX11_goPart 329 = .ok (.iload_n 1, 1) := dk_27 (dk_at dksX11_goPart_14 0 rfl rfl)
theorem dX11_goPart_330 : decode cX11_goPart 330 = .ok (.ifCond .ne 18, 3) := dk_154 0 18 (dk_at dksX11_goPart_14 1 rfl rfl)
theorem dX11_goPart_333 : decode cX11_goPart 333 = .ok (.aload_n 0, 1) := dk_42 (dk_at dksX11_goPart_14 4 rfl rfl)
theorem dX11_goPart_334 : decode cX11_goPart 334 = .ok (.invokevirtual 266, 3) := dk_182 1 10 (dk_at dksX11_goPart_14 5 rfl rfl)
theorem dX11_goPart_337 : decode cX11_goPart 337 = .ok (.ifCond .ne 11, 3) := dk_154 0 11 (dk_at dksX11_goPart_14 8 rfl rfl)
theorem dX11_goPart_340 : decode cX11_goPart 340 = .ok (.aload_n 0, 1) := dk_42 (dk_at dksX11_goPart_14 11 rfl rfl)
theorem dX11_goPart_341 : decode cX11_goPart 341 = .ok (.iload 10, 2) := dk_21 10 (dk_at dksX11_goPart_14 12 rfl rfl)
theorem dX11_goPart_343 : decode cX11_goPart 343 = .ok (.putfield 260, 3) := dk_181 1 4 (dk_at dksX11_goPart_14 14 rfl rfl)
theorem dX11_goPart_346 : decode cX11_goPart 346 = .ok (.iconst 0, 1) := dk_3 (dk_at dksX11_goPart_14 17 rfl rfl)
theorem dX11_goPart_347 : decode cX11_goPart 347 = .ok (.ireturn, 1) := dk_172 (dk_at dksX11_goPart_14 18 rfl rfl)
theorem dX11_goPart_348 : decode cX11_goPart 348 = .ok (.aload_n 0, 1) := dk_42 (dk_at dksX11_goPart_14 19 rfl rfl)
theorem dX11_goPart_349 : decode cX11_goPart 349 = .ok (.dup, 1) := dk_89 (dk_at dksX11_goPart_14 20 rfl rfl)
theorem dX11_goPart_350 : decode cX11_goPart 350 = .ok (.getfield 270, 3) := dk_180 1 14 (dk_at dksX11_goPart_14 21 rfl rfl)
theorem dX11_goPart_353 : decode cX11_goPart 353 = .ok (.iconst 1, 1) := dk_4 (dk_at dksX11_goPart_15 0 rfl rfl)
theorem dX11_goPart_354 : decode cX11_goPart 354 = .ok (.iadd, 1) := dk_96 (dk_at dksX11_goPart_15 1 rfl rfl)
theorem dX11_goPart_355 : decode cX11_goPart 355 = .ok (.putfield 270, 3) := dk_181 1 14 (dk_at dksX11_goPart_15 2 rfl rfl)
theorem dX11_goPart_358 : decode cX11_goPart 358 = .ok (.aload_n 0, 1) := dk_42 (dk_at dksX11_goPart_15 5 rfl rfl)
theorem dX11_goPart_359 : decode cX11_goPart 359 = .ok (.getfield 270, 3) := dk_180 1 14 (dk_at dksX11_goPart_15 6 rfl rfl)
theorem dX11_goPart_362 : decode cX11_goPart 362 = .ok (.bipush 9, 2) := dk_16 9 (dk_at dksX11_goPart_15 9 rfl rfl)
theorem dX11_goPart_364 : decode cX11_goPart 364 = .ok (.if_icmp .ne 6, 3) := dk_160 0 6 (dk_at dksX11_goPart_15 11 rfl rfl)
theorem dX11_goPart_367 : decode cX11_goPart 367 = .ok (.bipush (-9), 2) := dk_16 247 (dk_at dksX11_goPart_15 14 rfl rfl)
theorem dX11_goPart_369 : decode cX11_goPart 369 = .ok (.ireturn, 1) := dk_172 (dk_at dksX11_goPart_15 16 rfl rfl)
theorem dX11_goPart_370 : decode cX11_goPart 370 = .ok (.aload_n 0, 1) := dk_42 (dk_at dksX11_goPart_15 17 rfl rfl)
theorem dX11_goPart_371 : decode cX11_goPart 371 = .ok (.dup, 1) := dk_89 (dk_at dksX11_goPart_15 18 rfl rfl)
theorem dX11_goPart_372 : decode cX11_goPart 372 = .ok (.getfield 254, 3) := dk_180 0 254 (dk_at dksX11_goPart_15 19 rfl rfl)
theorem dX11_goPart_375 : decode cX11_goPart 375 = .ok (.iconst 1, 1) := dk_4 (dk_at dksX11_goPart_15 22 rfl rfl)
theorem dX11_goPart_376 : decode cX11_goPart 376 = .ok (.iadd, 1) := dk_96 (dk_at dksX11_goPart_15 23 rfl rfl)
theorem dX11_goPart_377 : decode cX11_goPart 377 = .ok (.putfield 254, 3) := dk_181 0 254 (dk_at dksX11_goPart_16 0 rfl rfl)
theorem dX11_goPart_380 : decode cX11_goPart 380 = .ok (.aload_n 0, 1) := dk_42 (dk_at dksX11_goPart_16 3 rfl rfl)
theorem dX11_goPart_381 : decode cX11_goPart 381 = .ok (.getfield 114, 3) := dk_180 0 114 (dk_at dksX11_goPart_16 4 rfl rfl)
theorem dX11_goPart_384 : decode cX11_goPart 384 = .ok (.aload_n 0, 1) := dk_42 (dk_at dksX11_goPart_16 7 rfl rfl)
theorem dX11_goPart_385 : decode cX11_goPart 385 = .ok (.getfield 254, 3) := dk_180 0 254 (dk_at dksX11_goPart_16 8 rfl rfl)
theorem dX11_goPart_388 : decode cX11_goPart 388 = .ok (.iload 10, 2) := dk_21 10 (dk_at dksX11_goPart_16 11 rfl rfl)
theorem dX11_goPart_390 : decode cX11_goPart 390 = .ok (.iastore, 1) := dk_79 (dk_at dksX11_goPart_16 13 rfl rfl)
theorem dX11_goPart_391 : decode cX11_goPart 391 = .ok (.aload_n 0, 1) := dk_42 (dk_at dksX11_goPart_16 14 rfl rfl)
theorem dX11_goPart_392 : decode cX11_goPart 392 = .ok (.getfield 117, 3) := dk_180 0 117 (dk_at dksX11_goPart_16 15 rfl rfl)
theorem dX11_goPart_395 : decode cX11_goPart 395 = .ok (.aload_n 0, 1) := dk_42 (dk_at dksX11_goPart_16 18 rfl rfl)
theorem dX11_goPart_396 : decode cX11_goPart 396 = .ok (.getfield 254, 3) := dk_180 0 254 (dk_at dksX11_goPart_16 19 rfl rfl)
theorem dX11_goPart_399 : decode cX11_goPart 399 = .ok (.iconst 0, 1) := dk_3 (dk_at dksX11_goPart_16 22 rfl rfl)
theorem dX11_goPart_400 : decode cX11_goPart 400 = .ok (.iastore, 1) := dk_79 (dk_at dksX11_goPart_16 23 rfl rfl)
theorem dX11_goPart_401 : decode cX11_goPart 401 = .ok (.aload_n 0, 1) := dk_42 (dk_at dksX11_goPart_17 0 rfl rfl)
theorem dX11_goPart_402 : decode cX11_goPart 402 = .ok (.aload_n 0, 1) := dk_42 (dk_at dksX11_goPart_17 1 rfl rfl)
theorem dX11_goPart_403 : decode cX11_goPart 403 = .ok (.iload 10, 2) := dk_21 10 (dk_at dksX11_goPart_17 2 rfl rfl)
theorem dX11_goPart_405 : decode cX11_goPart 405 = .ok (.iconst 0, 1) := dk_3 (dk_at dksX11_goPart_17 4 rfl rfl)
theorem dX11_goPart_406 : decode cX11_goPart 406 = .ok (.invokevirtual 251, 3) := dk_182 0 251 (dk_at dksX11_goPart_17 5 rfl rfl)
theorem dX11_goPart_409 : decode cX11_goPart 409 = .ok (.bipush 47, 2) := dk_16 47 (dk_at dksX11_goPart_17 8 rfl rfl)
theorem dX11_goPart_411 : decode cX11_goPart 411 = .ok (.if_icmp .ne 7, 3) := dk_160 0 7 (dk_at dksX11_goPart_17 10 rfl rfl)
theorem dX11_goPart_414 : decode cX11_goPart 414 = .ok (.iconst 1, 1) := dk_4 (dk_at dksX11_goPart_17 13 rfl rfl)
theorem dX11_goPart_415 : decode cX11_goPart 415 = .ok (.goto 7, 3) := dk_167 0 7 (dk_at dksX11_goPart_17 14 rfl rfl)
theorem dX11_goPart_418 : decode cX11_goPart 418 = .ok (.aload_n 0, 1) := dk_42 (dk_at dksX11_goPart_17 17 rfl rfl)
theorem dX11_goPart_419 : decode cX11_goPart 419 = .ok (.getfield 260, 3) := dk_180 1 4 (dk_at dksX11_goPart_17 18 rfl rfl)
theorem dX11_goPart_422 : decode cX11_goPart 422 = .ok (.putfield 260, 3) := dk_181 1 4 (dk_at dksX11_goPart_17 21 rfl rfl)
theorem dX11_goPart_425 : decode cX11_goPart 425 = .ok (.iconst 0, 1) := dk_3 (dk_at dksX11_goPart_18 0 rfl rfl)
theorem dX11_goPart_426 : decode cX11_goPart 426 = .ok (.ireturn, 1) := dk_172 (dk_at dksX11_goPart_18 1 rfl rfl)
abbrev cX11_holderOf : ByteArray := prog_12_method_49_code
def yX11_holderOf : MethodName := ⟨RX11, "holderOf", "(I)I"⟩
def dkwX11_holderOf_1 : List UInt8 := [42, 180, 0, 35, 29, 46, 167, 0, 4, 28, 61, 132, 3, 1, 167, 255, 222, 28, 172]
abbrev dktX11_holderOf_1 : List UInt8 := dkwX11_holderOf_1 ++ []
def dkwX11_holderOf_0 : List UInt8 := [4, 61, 3, 62, 29, 42, 180, 0, 32, 3, 46, 162, 0, 30, 42, 180, 0, 42, 29, 46, 27, 160, 0, 12]
abbrev dktX11_holderOf_0 : List UInt8 := dkwX11_holderOf_0 ++ dktX11_holderOf_1
theorem dksX11_holderOf_0 : cX11_holderOf.data.toList.drop 0 = dktX11_holderOf_0 := by decide +kernel
theorem dksX11_holderOf_1 : cX11_holderOf.data.toList.drop 24 = dktX11_holderOf_1 := dk_seg dksX11_holderOf_0 24 rfl rfl
theorem dX11_holderOf_0 : decode cX11_holderOf 0 = .ok (.iconst 1, 1) := dk_4 (dk_at dksX11_holderOf_0 0 rfl rfl)
theorem dX11_holderOf_1 : decode cX11_holderOf 1 = .ok (.istore_n 2, 1) := dk_61 (dk_at dksX11_holderOf_0 1 rfl rfl)
theorem dX11_holderOf_2 : decode cX11_holderOf 2 = .ok (.iconst 0, 1) := dk_3 (dk_at dksX11_holderOf_0 2 rfl rfl)
theorem dX11_holderOf_3 : decode cX11_holderOf 3 = .ok (.istore_n 3, 1) := dk_62 (dk_at dksX11_holderOf_0 3 rfl rfl)
theorem dX11_holderOf_4 : decode cX11_holderOf 4 = .ok (.iload_n 3, 1) := dk_29 (dk_at dksX11_holderOf_0 4 rfl rfl)
theorem dX11_holderOf_5 : decode cX11_holderOf 5 = .ok (.aload_n 0, 1) := dk_42 (dk_at dksX11_holderOf_0 5 rfl rfl)
theorem dX11_holderOf_6 : decode cX11_holderOf 6 = .ok (.getfield 32, 3) := dk_180 0 32 (dk_at dksX11_holderOf_0 6 rfl rfl)
theorem dX11_holderOf_9 : decode cX11_holderOf 9 = .ok (.iconst 0, 1) := dk_3 (dk_at dksX11_holderOf_0 9 rfl rfl)
theorem dX11_holderOf_10 : decode cX11_holderOf 10 = .ok (.iaload, 1) := dk_46 (dk_at dksX11_holderOf_0 10 rfl rfl)
theorem dX11_holderOf_11 : decode cX11_holderOf 11 = .ok (.if_icmp .ge 30, 3) := dk_162 0 30 (dk_at dksX11_holderOf_0 11 rfl rfl)
theorem dX11_holderOf_14 : decode cX11_holderOf 14 = .ok (.aload_n 0, 1) := dk_42 (dk_at dksX11_holderOf_0 14 rfl rfl)
theorem dX11_holderOf_15 : decode cX11_holderOf 15 = .ok (.getfield 42, 3) := dk_180 0 42 (dk_at dksX11_holderOf_0 15 rfl rfl)
theorem dX11_holderOf_18 : decode cX11_holderOf 18 = .ok (.iload_n 3, 1) := dk_29 (dk_at dksX11_holderOf_0 18 rfl rfl)
theorem dX11_holderOf_19 : decode cX11_holderOf 19 = .ok (.iaload, 1) := dk_46 (dk_at dksX11_holderOf_0 19 rfl rfl)
theorem dX11_holderOf_20 : decode cX11_holderOf 20 = .ok (.iload_n 1, 1) := dk_27 (dk_at dksX11_holderOf_0 20 rfl rfl)
theorem dX11_holderOf_21 : decode cX11_holderOf 21 = .ok (.if_icmp .ne 12, 3) := dk_160 0 12 (dk_at dksX11_holderOf_0 21 rfl rfl)
theorem dX11_holderOf_24 : decode cX11_holderOf 24 = .ok (.aload_n 0, 1) := dk_42 (dk_at dksX11_holderOf_1 0 rfl rfl)
theorem dX11_holderOf_25 : decode cX11_holderOf 25 = .ok (.getfield 35, 3) := dk_180 0 35 (dk_at dksX11_holderOf_1 1 rfl rfl)
theorem dX11_holderOf_28 : decode cX11_holderOf 28 = .ok (.iload_n 3, 1) := dk_29 (dk_at dksX11_holderOf_1 4 rfl rfl)
theorem dX11_holderOf_29 : decode cX11_holderOf 29 = .ok (.iaload, 1) := dk_46 (dk_at dksX11_holderOf_1 5 rfl rfl)
theorem dX11_holderOf_30 : decode cX11_holderOf 30 = .ok (.goto 4, 3) := dk_167 0 4 (dk_at dksX11_holderOf_1 6 rfl rfl)
theorem dX11_holderOf_33 : decode cX11_holderOf 33 = .ok (.iload_n 2, 1) := dk_28 (dk_at dksX11_holderOf_1 9 rfl rfl)
theorem dX11_holderOf_34 : decode cX11_holderOf 34 = .ok (.istore_n 2, 1) := dk_61 (dk_at dksX11_holderOf_1 10 rfl rfl)
theorem dX11_holderOf_35 : decode cX11_holderOf 35 = .ok (.iinc 3 1, 3) := dk_132 3 1 (dk_at dksX11_holderOf_1 11 rfl rfl)
theorem dX11_holderOf_38 : decode cX11_holderOf 38 = .ok (.goto (-34), 3) := dk_167 255 222 (dk_at dksX11_holderOf_1 14 rfl rfl)
theorem dX11_holderOf_41 : decode cX11_holderOf 41 = .ok (.iload_n 2, 1) := dk_28 (dk_at dksX11_holderOf_1 17 rfl rfl)
theorem dX11_holderOf_42 : decode cX11_holderOf 42 = .ok (.ireturn, 1) := dk_172 (dk_at dksX11_holderOf_1 18 rfl rfl)
abbrev cX11_path : ByteArray := prog_12_method_53_code
def yX11_path : MethodName := ⟨RX11, "path", "(I)I"⟩
def dkwX11_path_7 : List UInt8 := [180, 0, 111, 21, 4, 16, 47, 84, 42, 21, 5, 182, 1, 7, 54, 5, 167, 255, 172, 29, 172]
abbrev dktX11_path_7 : List UInt8 := dkwX11_path_7 ++ []
def dkwX11_path_6 : List UInt8 := [21, 9, 184, 0, 205, 145, 84, 132, 9, 1, 167, 255, 225, 21, 4, 21, 8, 4, 96, 100, 54, 4, 42]
abbrev dktX11_path_6 : List UInt8 := dkwX11_path_6 ++ dktX11_path_7
def dkwX11_path_5 : List UInt8 := [54, 9, 21, 9, 21, 8, 162, 0, 30, 42, 180, 0, 111, 21, 4, 21, 8, 100, 21, 9, 96, 22, 6]
abbrev dktX11_path_5 : List UInt8 := dkwX11_path_5 ++ dktX11_path_6
def dkwX11_path_4 : List UInt8 := [54, 5, 21, 5, 4, 159, 0, 84, 42, 21, 5, 182, 1, 21, 55, 6, 22, 6, 184, 1, 25, 54, 8, 3]
abbrev dktX11_path_4 : List UInt8 := dkwX11_path_4 ++ dktX11_path_5
def dkwX11_path_3 : List UInt8 := [164, 0, 6, 16, 246, 172, 42, 29, 181, 0, 213, 42, 180, 0, 111, 3, 16, 47, 84, 29, 54, 4, 27]
abbrev dktX11_path_3 : List UInt8 := dkwX11_path_3 ++ dktX11_path_4
def dkwX11_path_2 : List UInt8 := [182, 1, 21, 184, 1, 25, 96, 96, 62, 42, 21, 4, 182, 1, 7, 54, 4, 167, 255, 228, 29, 17, 0, 200]
abbrev dktX11_path_2 : List UInt8 := dkwX11_path_2 ++ dktX11_path_3
def dkwX11_path_1 : List UInt8 := [160, 0, 7, 4, 167, 0, 4, 3, 62, 27, 54, 4, 21, 4, 4, 159, 0, 28, 29, 4, 42, 21, 4]
abbrev dktX11_path_1 : List UInt8 := dkwX11_path_1 ++ dktX11_path_2
def dkwX11_path_0 : List UInt8 := [42, 180, 0, 7, 154, 0, 6, 16, 254, 172, 42, 27, 182, 0, 216, 61, 28, 153, 0, 5, 28, 172, 27, 4]
abbrev dktX11_path_0 : List UInt8 := dkwX11_path_0 ++ dktX11_path_1
theorem dksX11_path_0 : cX11_path.data.toList.drop 0 = dktX11_path_0 := by decide +kernel
theorem dksX11_path_1 : cX11_path.data.toList.drop 24 = dktX11_path_1 := dk_seg dksX11_path_0 24 rfl rfl
theorem dksX11_path_2 : cX11_path.data.toList.drop 47 = dktX11_path_2 := dk_seg dksX11_path_1 23 rfl rfl
theorem dksX11_path_3 : cX11_path.data.toList.drop 71 = dktX11_path_3 := dk_seg dksX11_path_2 24 rfl rfl
theorem dksX11_path_4 : cX11_path.data.toList.drop 94 = dktX11_path_4 := dk_seg dksX11_path_3 23 rfl rfl
theorem dksX11_path_5 : cX11_path.data.toList.drop 118 = dktX11_path_5 := dk_seg dksX11_path_4 24 rfl rfl
theorem dksX11_path_6 : cX11_path.data.toList.drop 141 = dktX11_path_6 := dk_seg dksX11_path_5 23 rfl rfl
theorem dksX11_path_7 : cX11_path.data.toList.drop 164 = dktX11_path_7 := dk_seg dksX11_path_6 23 rfl rfl
theorem dX11_path_0 : decode cX11_path 0 = .ok (.aload_n 0, 1) := dk_42 (dk_at dksX11_path_0 0 rfl rfl)
theorem dX11_path_1 : decode cX11_path 1 = .ok (.getfield 7, 3) := dk_180 0 7 (dk_at dksX11_path_0 1 rfl rfl)
theorem dX11_path_4 : decode cX11_path 4 = .ok (.ifCond .ne 6, 3) := dk_154 0 6 (dk_at dksX11_path_0 4 rfl rfl)
theorem dX11_path_7 : decode cX11_path 7 = .ok (.bipush (-2), 2) := dk_16 254 (dk_at dksX11_path_0 7 rfl rfl)
theorem dX11_path_9 : decode cX11_path 9 = .ok (.ireturn, 1) := dk_172 (dk_at dksX11_path_0 9 rfl rfl)
theorem dX11_path_10 : decode cX11_path 10 = .ok (.aload_n 0, 1) := dk_42 (dk_at dksX11_path_0 10 rfl rfl)
theorem dX11_path_11 : decode cX11_path 11 = .ok (.iload_n 1, 1) := dk_27 (dk_at dksX11_path_0 11 rfl rfl)
theorem dX11_path_12 : decode cX11_path 12 = .ok (.invokevirtual 216, 3) := dk_182 0 216 (dk_at dksX11_path_0 12 rfl rfl)
theorem dX11_path_15 : decode cX11_path 15 = .ok (.istore_n 2, 1) := dk_61 (dk_at dksX11_path_0 15 rfl rfl)
theorem dX11_path_16 : decode cX11_path 16 = .ok (.iload_n 2, 1) := dk_28 (dk_at dksX11_path_0 16 rfl rfl)
theorem dX11_path_17 : decode cX11_path 17 = .ok (.ifCond .eq 5, 3) := dk_153 0 5 (dk_at dksX11_path_0 17 rfl rfl)
theorem dX11_path_20 : decode cX11_path 20 = .ok (.iload_n 2, 1) := dk_28 (dk_at dksX11_path_0 20 rfl rfl)
theorem dX11_path_21 : decode cX11_path 21 = .ok (.ireturn, 1) := dk_172 (dk_at dksX11_path_0 21 rfl rfl)
theorem dX11_path_22 : decode cX11_path 22 = .ok (.iload_n 1, 1) := dk_27 (dk_at dksX11_path_0 22 rfl rfl)
theorem dX11_path_23 : decode cX11_path 23 = .ok (.iconst 1, 1) := dk_4 (dk_at dksX11_path_0 23 rfl rfl)
theorem dX11_path_24 : decode cX11_path 24 = .ok (.if_icmp .ne 7, 3) := dk_160 0 7 (dk_at dksX11_path_1 0 rfl rfl)
theorem dX11_path_27 : decode cX11_path 27 = .ok (.iconst 1, 1) := dk_4 (dk_at dksX11_path_1 3 rfl rfl)
theorem dX11_path_28 : decode cX11_path 28 = .ok (.goto 4, 3) := dk_167 0 4 (dk_at dksX11_path_1 4 rfl rfl)
theorem dX11_path_31 : decode cX11_path 31 = .ok (.iconst 0, 1) := dk_3 (dk_at dksX11_path_1 7 rfl rfl)
theorem dX11_path_32 : decode cX11_path 32 = .ok (.istore_n 3, 1) := dk_62 (dk_at dksX11_path_1 8 rfl rfl)
theorem dX11_path_33 : decode cX11_path 33 = .ok (.iload_n 1, 1) := dk_27 (dk_at dksX11_path_1 9 rfl rfl)
theorem dX11_path_34 : decode cX11_path 34 = .ok (.istore 4, 2) := dk_54 4 (dk_at dksX11_path_1 10 rfl rfl)
theorem dX11_path_36 : decode cX11_path 36 = .ok (.iload 4, 2) := dk_21 4 (dk_at dksX11_path_1 12 rfl rfl)
theorem dX11_path_38 : decode cX11_path 38 = .ok (.iconst 1, 1) := dk_4 (dk_at dksX11_path_1 14 rfl rfl)
theorem dX11_path_39 : decode cX11_path 39 = .ok (.if_icmp .eq 28, 3) := dk_159 0 28 (dk_at dksX11_path_1 15 rfl rfl)
theorem dX11_path_42 : decode cX11_path 42 = .ok (.iload_n 3, 1) := dk_29 (dk_at dksX11_path_1 18 rfl rfl)
theorem dX11_path_43 : decode cX11_path 43 = .ok (.iconst 1, 1) := dk_4 (dk_at dksX11_path_1 19 rfl rfl)
theorem dX11_path_44 : decode cX11_path 44 = .ok (.aload_n 0, 1) := dk_42 (dk_at dksX11_path_1 20 rfl rfl)
theorem dX11_path_45 : decode cX11_path 45 = .ok (.iload 4, 2) := dk_21 4 (dk_at dksX11_path_1 21 rfl rfl)
theorem dX11_path_47 : decode cX11_path 47 = .ok (.invokevirtual 277, 3) := dk_182 1 21 (dk_at dksX11_path_2 0 rfl rfl)
theorem dX11_path_50 : decode cX11_path 50 = .ok (.invokestatic 281, 3) := dk_184 1 25 (dk_at dksX11_path_2 3 rfl rfl)
theorem dX11_path_53 : decode cX11_path 53 = .ok (.iadd, 1) := dk_96 (dk_at dksX11_path_2 6 rfl rfl)
theorem dX11_path_54 : decode cX11_path 54 = .ok (.iadd, 1) := dk_96 (dk_at dksX11_path_2 7 rfl rfl)
theorem dX11_path_55 : decode cX11_path 55 = .ok (.istore_n 3, 1) := dk_62 (dk_at dksX11_path_2 8 rfl rfl)
theorem dX11_path_56 : decode cX11_path 56 = .ok (.aload_n 0, 1) := dk_42 (dk_at dksX11_path_2 9 rfl rfl)
theorem dX11_path_57 : decode cX11_path 57 = .ok (.iload 4, 2) := dk_21 4 (dk_at dksX11_path_2 10 rfl rfl)
theorem dX11_path_59 : decode cX11_path 59 = .ok (.invokevirtual 263, 3) := dk_182 1 7 (dk_at dksX11_path_2 12 rfl rfl)
theorem dX11_path_62 : decode cX11_path 62 = .ok (.istore 4, 2) := dk_54 4 (dk_at dksX11_path_2 15 rfl rfl)
theorem dX11_path_64 : decode cX11_path 64 = .ok (.goto (-28), 3) := dk_167 255 228 (dk_at dksX11_path_2 17 rfl rfl)
theorem dX11_path_67 : decode cX11_path 67 = .ok (.iload_n 3, 1) := dk_29 (dk_at dksX11_path_2 20 rfl rfl)
theorem dX11_path_68 : decode cX11_path 68 = .ok (.sipush 200, 3) := dk_17 0 200 (dk_at dksX11_path_2 21 rfl rfl)
theorem dX11_path_71 : decode cX11_path 71 = .ok (.if_icmp .le 6, 3) := dk_164 0 6 (dk_at dksX11_path_3 0 rfl rfl)
theorem dX11_path_74 : decode cX11_path 74 = .ok (.bipush (-10), 2) := dk_16 246 (dk_at dksX11_path_3 3 rfl rfl)
theorem dX11_path_76 : decode cX11_path 76 = .ok (.ireturn, 1) := dk_172 (dk_at dksX11_path_3 5 rfl rfl)
theorem dX11_path_77 : decode cX11_path 77 = .ok (.aload_n 0, 1) := dk_42 (dk_at dksX11_path_3 6 rfl rfl)
theorem dX11_path_78 : decode cX11_path 78 = .ok (.iload_n 3, 1) := dk_29 (dk_at dksX11_path_3 7 rfl rfl)
theorem dX11_path_79 : decode cX11_path 79 = .ok (.putfield 213, 3) := dk_181 0 213 (dk_at dksX11_path_3 8 rfl rfl)
theorem dX11_path_82 : decode cX11_path 82 = .ok (.aload_n 0, 1) := dk_42 (dk_at dksX11_path_3 11 rfl rfl)
theorem dX11_path_83 : decode cX11_path 83 = .ok (.getfield 111, 3) := dk_180 0 111 (dk_at dksX11_path_3 12 rfl rfl)
theorem dX11_path_86 : decode cX11_path 86 = .ok (.iconst 0, 1) := dk_3 (dk_at dksX11_path_3 15 rfl rfl)
theorem dX11_path_87 : decode cX11_path 87 = .ok (.bipush 47, 2) := dk_16 47 (dk_at dksX11_path_3 16 rfl rfl)
theorem dX11_path_89 : decode cX11_path 89 = .ok (.bastore, 1) := dk_84 (dk_at dksX11_path_3 18 rfl rfl)
theorem dX11_path_90 : decode cX11_path 90 = .ok (.iload_n 3, 1) := dk_29 (dk_at dksX11_path_3 19 rfl rfl)
theorem dX11_path_91 : decode cX11_path 91 = .ok (.istore 4, 2) := dk_54 4 (dk_at dksX11_path_3 20 rfl rfl)
theorem dX11_path_93 : decode cX11_path 93 = .ok (.iload_n 1, 1) := dk_27 (dk_at dksX11_path_3 22 rfl rfl)
theorem dX11_path_94 : decode cX11_path 94 = .ok (.istore 5, 2) := dk_54 5 (dk_at dksX11_path_4 0 rfl rfl)
theorem dX11_path_96 : decode cX11_path 96 = .ok (.iload 5, 2) := dk_21 5 (dk_at dksX11_path_4 2 rfl rfl)
theorem dX11_path_98 : decode cX11_path 98 = .ok (.iconst 1, 1) := dk_4 (dk_at dksX11_path_4 4 rfl rfl)
theorem dX11_path_99 : decode cX11_path 99 = .ok (.if_icmp .eq 84, 3) := dk_159 0 84 (dk_at dksX11_path_4 5 rfl rfl)
theorem dX11_path_102 : decode cX11_path 102 = .ok (.aload_n 0, 1) := dk_42 (dk_at dksX11_path_4 8 rfl rfl)
theorem dX11_path_103 : decode cX11_path 103 = .ok (.iload 5, 2) := dk_21 5 (dk_at dksX11_path_4 9 rfl rfl)
theorem dX11_path_105 : decode cX11_path 105 = .ok (.invokevirtual 277, 3) := dk_182 1 21 (dk_at dksX11_path_4 11 rfl rfl)
theorem dX11_path_108 : decode cX11_path 108 = .ok (.lstore 6, 2) := dk_55 6 (dk_at dksX11_path_4 14 rfl rfl)
theorem dX11_path_110 : decode cX11_path 110 = .ok (.lload 6, 2) := dk_22 6 (dk_at dksX11_path_4 16 rfl rfl)
theorem dX11_path_112 : decode cX11_path 112 = .ok (.invokestatic 281, 3) := dk_184 1 25 (dk_at dksX11_path_4 18 rfl rfl)
theorem dX11_path_115 : decode cX11_path 115 = .ok (.istore 8, 2) := dk_54 8 (dk_at dksX11_path_4 21 rfl rfl)
theorem dX11_path_117 : decode cX11_path 117 = .ok (.iconst 0, 1) := dk_3 (dk_at dksX11_path_4 23 rfl rfl)
theorem dX11_path_118 : decode cX11_path 118 = .ok (.istore 9, 2) := dk_54 9 (dk_at dksX11_path_5 0 rfl rfl)
theorem dX11_path_120 : decode cX11_path 120 = .ok (.iload 9, 2) := dk_21 9 (dk_at dksX11_path_5 2 rfl rfl)
theorem dX11_path_122 : decode cX11_path 122 = .ok (.iload 8, 2) := dk_21 8 (dk_at dksX11_path_5 4 rfl rfl)
theorem dX11_path_124 : decode cX11_path 124 = .ok (.if_icmp .ge 30, 3) := dk_162 0 30 (dk_at dksX11_path_5 6 rfl rfl)
theorem dX11_path_127 : decode cX11_path 127 = .ok (.aload_n 0, 1) := dk_42 (dk_at dksX11_path_5 9 rfl rfl)
theorem dX11_path_128 : decode cX11_path 128 = .ok (.getfield 111, 3) := dk_180 0 111 (dk_at dksX11_path_5 10 rfl rfl)
theorem dX11_path_131 : decode cX11_path 131 = .ok (.iload 4, 2) := dk_21 4 (dk_at dksX11_path_5 13 rfl rfl)
theorem dX11_path_133 : decode cX11_path 133 = .ok (.iload 8, 2) := dk_21 8 (dk_at dksX11_path_5 15 rfl rfl)
theorem dX11_path_135 : decode cX11_path 135 = .ok (.isub, 1) := dk_100 (dk_at dksX11_path_5 17 rfl rfl)
theorem dX11_path_136 : decode cX11_path 136 = .ok (.iload 9, 2) := dk_21 9 (dk_at dksX11_path_5 18 rfl rfl)
theorem dX11_path_138 : decode cX11_path 138 = .ok (.iadd, 1) := dk_96 (dk_at dksX11_path_5 20 rfl rfl)
theorem dX11_path_139 : decode cX11_path 139 = .ok (.lload 6, 2) := dk_22 6 (dk_at dksX11_path_5 21 rfl rfl)
theorem dX11_path_141 : decode cX11_path 141 = .ok (.iload 9, 2) := dk_21 9 (dk_at dksX11_path_6 0 rfl rfl)
theorem dX11_path_143 : decode cX11_path 143 = .ok (.invokestatic 205, 3) := dk_184 0 205 (dk_at dksX11_path_6 2 rfl rfl)
theorem dX11_path_146 : decode cX11_path 146 = .ok (.i2b, 1) := dk_145 (dk_at dksX11_path_6 5 rfl rfl)
theorem dX11_path_147 : decode cX11_path 147 = .ok (.bastore, 1) := dk_84 (dk_at dksX11_path_6 6 rfl rfl)
theorem dX11_path_148 : decode cX11_path 148 = .ok (.iinc 9 1, 3) := dk_132 9 1 (dk_at dksX11_path_6 7 rfl rfl)
theorem dX11_path_151 : decode cX11_path 151 = .ok (.goto (-31), 3) := dk_167 255 225 (dk_at dksX11_path_6 10 rfl rfl)
theorem dX11_path_154 : decode cX11_path 154 = .ok (.iload 4, 2) := dk_21 4 (dk_at dksX11_path_6 13 rfl rfl)
theorem dX11_path_156 : decode cX11_path 156 = .ok (.iload 8, 2) := dk_21 8 (dk_at dksX11_path_6 15 rfl rfl)
theorem dX11_path_158 : decode cX11_path 158 = .ok (.iconst 1, 1) := dk_4 (dk_at dksX11_path_6 17 rfl rfl)
theorem dX11_path_159 : decode cX11_path 159 = .ok (.iadd, 1) := dk_96 (dk_at dksX11_path_6 18 rfl rfl)
theorem dX11_path_160 : decode cX11_path 160 = .ok (.isub, 1) := dk_100 (dk_at dksX11_path_6 19 rfl rfl)
theorem dX11_path_161 : decode cX11_path 161 = .ok (.istore 4, 2) := dk_54 4 (dk_at dksX11_path_6 20 rfl rfl)
theorem dX11_path_163 : decode cX11_path 163 = .ok (.aload_n 0, 1) := dk_42 (dk_at dksX11_path_6 22 rfl rfl)
theorem dX11_path_164 : decode cX11_path 164 = .ok (.getfield 111, 3) := dk_180 0 111 (dk_at dksX11_path_7 0 rfl rfl)
theorem dX11_path_167 : decode cX11_path 167 = .ok (.iload 4, 2) := dk_21 4 (dk_at dksX11_path_7 3 rfl rfl)
theorem dX11_path_169 : decode cX11_path 169 = .ok (.bipush 47, 2) := dk_16 47 (dk_at dksX11_path_7 5 rfl rfl)
theorem dX11_path_171 : decode cX11_path 171 = .ok (.bastore, 1) := dk_84 (dk_at dksX11_path_7 7 rfl rfl)
theorem dX11_path_172 : decode cX11_path 172 = .ok (.aload_n 0, 1) := dk_42 (dk_at dksX11_path_7 8 rfl rfl)
theorem dX11_path_173 : decode cX11_path 173 = .ok (.iload 5, 2) := dk_21 5 (dk_at dksX11_path_7 9 rfl rfl)
theorem dX11_path_175 : decode cX11_path 175 = .ok (.invokevirtual 263, 3) := dk_182 1 7 (dk_at dksX11_path_7 11 rfl rfl)
theorem dX11_path_178 : decode cX11_path 178 = .ok (.istore 5, 2) := dk_54 5 (dk_at dksX11_path_7 14 rfl rfl)
theorem dX11_path_180 : decode cX11_path 180 = .ok (.goto (-84), 3) := dk_167 255 172 (dk_at dksX11_path_7 16 rfl rfl)
theorem dX11_path_183 : decode cX11_path 183 = .ok (.iload_n 3, 1) := dk_29 (dk_at dksX11_path_7 19 rfl rfl)
theorem dX11_path_184 : decode cX11_path 184 = .ok (.ireturn, 1) := dk_172 (dk_at dksX11_path_7 20 rfl rfl)
abbrev cX11_nameOf : ByteArray := prog_12_method_52_code
def yX11_nameOf : MethodName := ⟨RX11, "nameOf", "(I)J"⟩
def dkwX11_nameOf_1 : List UInt8 := [160, 0, 13, 42, 180, 0, 38, 21, 4, 47, 167, 0, 4, 32, 65, 132, 4, 1, 167, 255, 219, 32, 173]
abbrev dktX11_nameOf_1 : List UInt8 := dkwX11_nameOf_1 ++ []
def dkwX11_nameOf_0 : List UInt8 := [9, 65, 3, 54, 4, 21, 4, 42, 180, 0, 32, 3, 46, 162, 0, 32, 42, 180, 0, 42, 21, 4, 46, 27]
abbrev dktX11_nameOf_0 : List UInt8 := dkwX11_nameOf_0 ++ dktX11_nameOf_1
theorem dksX11_nameOf_0 : cX11_nameOf.data.toList.drop 0 = dktX11_nameOf_0 := by decide +kernel
theorem dksX11_nameOf_1 : cX11_nameOf.data.toList.drop 24 = dktX11_nameOf_1 := dk_seg dksX11_nameOf_0 24 rfl rfl
theorem dX11_nameOf_0 : decode cX11_nameOf 0 = .ok (.lconst 0, 1) := dk_9 (dk_at dksX11_nameOf_0 0 rfl rfl)
theorem dX11_nameOf_1 : decode cX11_nameOf 1 = .ok (.lstore_n 2, 1) := dk_65 (dk_at dksX11_nameOf_0 1 rfl rfl)
theorem dX11_nameOf_2 : decode cX11_nameOf 2 = .ok (.iconst 0, 1) := dk_3 (dk_at dksX11_nameOf_0 2 rfl rfl)
theorem dX11_nameOf_3 : decode cX11_nameOf 3 = .ok (.istore 4, 2) := dk_54 4 (dk_at dksX11_nameOf_0 3 rfl rfl)
theorem dX11_nameOf_5 : decode cX11_nameOf 5 = .ok (.iload 4, 2) := dk_21 4 (dk_at dksX11_nameOf_0 5 rfl rfl)
theorem dX11_nameOf_7 : decode cX11_nameOf 7 = .ok (.aload_n 0, 1) := dk_42 (dk_at dksX11_nameOf_0 7 rfl rfl)
theorem dX11_nameOf_8 : decode cX11_nameOf 8 = .ok (.getfield 32, 3) := dk_180 0 32 (dk_at dksX11_nameOf_0 8 rfl rfl)
theorem dX11_nameOf_11 : decode cX11_nameOf 11 = .ok (.iconst 0, 1) := dk_3 (dk_at dksX11_nameOf_0 11 rfl rfl)
theorem dX11_nameOf_12 : decode cX11_nameOf 12 = .ok (.iaload, 1) := dk_46 (dk_at dksX11_nameOf_0 12 rfl rfl)
theorem dX11_nameOf_13 : decode cX11_nameOf 13 = .ok (.if_icmp .ge 32, 3) := dk_162 0 32 (dk_at dksX11_nameOf_0 13 rfl rfl)
theorem dX11_nameOf_16 : decode cX11_nameOf 16 = .ok (.aload_n 0, 1) := dk_42 (dk_at dksX11_nameOf_0 16 rfl rfl)
theorem dX11_nameOf_17 : decode cX11_nameOf 17 = .ok (.getfield 42, 3) := dk_180 0 42 (dk_at dksX11_nameOf_0 17 rfl rfl)
theorem dX11_nameOf_20 : decode cX11_nameOf 20 = .ok (.iload 4, 2) := dk_21 4 (dk_at dksX11_nameOf_0 20 rfl rfl)
theorem dX11_nameOf_22 : decode cX11_nameOf 22 = .ok (.iaload, 1) := dk_46 (dk_at dksX11_nameOf_0 22 rfl rfl)
theorem dX11_nameOf_23 : decode cX11_nameOf 23 = .ok (.iload_n 1, 1) := dk_27 (dk_at dksX11_nameOf_0 23 rfl rfl)
theorem dX11_nameOf_24 : decode cX11_nameOf 24 = .ok (.if_icmp .ne 13, 3) := dk_160 0 13 (dk_at dksX11_nameOf_1 0 rfl rfl)
theorem dX11_nameOf_27 : decode cX11_nameOf 27 = .ok (.aload_n 0, 1) := dk_42 (dk_at dksX11_nameOf_1 3 rfl rfl)
theorem dX11_nameOf_28 : decode cX11_nameOf 28 = .ok (.getfield 38, 3) := dk_180 0 38 (dk_at dksX11_nameOf_1 4 rfl rfl)
theorem dX11_nameOf_31 : decode cX11_nameOf 31 = .ok (.iload 4, 2) := dk_21 4 (dk_at dksX11_nameOf_1 7 rfl rfl)
theorem dX11_nameOf_33 : decode cX11_nameOf 33 = .ok (.laload, 1) := dk_47 (dk_at dksX11_nameOf_1 9 rfl rfl)
theorem dX11_nameOf_34 : decode cX11_nameOf 34 = .ok (.goto 4, 3) := dk_167 0 4 (dk_at dksX11_nameOf_1 10 rfl rfl)
theorem dX11_nameOf_37 : decode cX11_nameOf 37 = .ok (.lload_n 2, 1) := dk_32 (dk_at dksX11_nameOf_1 13 rfl rfl)
theorem dX11_nameOf_38 : decode cX11_nameOf 38 = .ok (.lstore_n 2, 1) := dk_65 (dk_at dksX11_nameOf_1 14 rfl rfl)
theorem dX11_nameOf_39 : decode cX11_nameOf 39 = .ok (.iinc 4 1, 3) := dk_132 4 1 (dk_at dksX11_nameOf_1 15 rfl rfl)
theorem dX11_nameOf_42 : decode cX11_nameOf 42 = .ok (.goto (-37), 3) := dk_167 255 219 (dk_at dksX11_nameOf_1 18 rfl rfl)
theorem dX11_nameOf_45 : decode cX11_nameOf 45 = .ok (.lload_n 2, 1) := dk_32 (dk_at dksX11_nameOf_1 21 rfl rfl)
theorem dX11_nameOf_46 : decode cX11_nameOf 46 = .ok (.lreturn, 1) := dk_173 (dk_at dksX11_nameOf_1 22 rfl rfl)
abbrev cX11_lengthOf : ByteArray := prog_12_method_51_code
def yX11_lengthOf : MethodName := ⟨RX11, "lengthOf", "(J)I"⟩
def dkwX11_lengthOf_1 : List UInt8 := [96, 61, 132, 3, 1, 167, 255, 231, 28, 172]
abbrev dktX11_lengthOf_1 : List UInt8 := dkwX11_lengthOf_1 ++ []
def dkwX11_lengthOf_0 : List UInt8 := [3, 61, 3, 62, 29, 16, 8, 162, 0, 25, 28, 30, 29, 184, 0, 205, 153, 0, 7, 4, 167, 0, 4, 3]
abbrev dktX11_lengthOf_0 : List UInt8 := dkwX11_lengthOf_0 ++ dktX11_lengthOf_1
theorem dksX11_lengthOf_0 : cX11_lengthOf.data.toList.drop 0 = dktX11_lengthOf_0 := by decide +kernel
theorem dksX11_lengthOf_1 : cX11_lengthOf.data.toList.drop 24 = dktX11_lengthOf_1 := dk_seg dksX11_lengthOf_0 24 rfl rfl
theorem dX11_lengthOf_0 : decode cX11_lengthOf 0 = .ok (.iconst 0, 1) := dk_3 (dk_at dksX11_lengthOf_0 0 rfl rfl)
theorem dX11_lengthOf_1 : decode cX11_lengthOf 1 = .ok (.istore_n 2, 1) := dk_61 (dk_at dksX11_lengthOf_0 1 rfl rfl)
theorem dX11_lengthOf_2 : decode cX11_lengthOf 2 = .ok (.iconst 0, 1) := dk_3 (dk_at dksX11_lengthOf_0 2 rfl rfl)
theorem dX11_lengthOf_3 : decode cX11_lengthOf 3 = .ok (.istore_n 3, 1) := dk_62 (dk_at dksX11_lengthOf_0 3 rfl rfl)
theorem dX11_lengthOf_4 : decode cX11_lengthOf 4 = .ok (.iload_n 3, 1) := dk_29 (dk_at dksX11_lengthOf_0 4 rfl rfl)
theorem dX11_lengthOf_5 : decode cX11_lengthOf 5 = .ok (.bipush 8, 2) := dk_16 8 (dk_at dksX11_lengthOf_0 5 rfl rfl)
theorem dX11_lengthOf_7 : decode cX11_lengthOf 7 = .ok (.if_icmp .ge 25, 3) := dk_162 0 25 (dk_at dksX11_lengthOf_0 7 rfl rfl)
theorem dX11_lengthOf_10 : decode cX11_lengthOf 10 = .ok (.iload_n 2, 1) := dk_28 (dk_at dksX11_lengthOf_0 10 rfl rfl)
theorem dX11_lengthOf_11 : decode cX11_lengthOf 11 = .ok (.lload_n 0, 1) := dk_30 (dk_at dksX11_lengthOf_0 11 rfl rfl)
theorem dX11_lengthOf_12 : decode cX11_lengthOf 12 = .ok (.iload_n 3, 1) := dk_29 (dk_at dksX11_lengthOf_0 12 rfl rfl)
theorem dX11_lengthOf_13 : decode cX11_lengthOf 13 = .ok (.invokestatic 205, 3) := dk_184 0 205 (dk_at dksX11_lengthOf_0 13 rfl rfl)
theorem dX11_lengthOf_16 : decode cX11_lengthOf 16 = .ok (.ifCond .eq 7, 3) := dk_153 0 7 (dk_at dksX11_lengthOf_0 16 rfl rfl)
theorem dX11_lengthOf_19 : decode cX11_lengthOf 19 = .ok (.iconst 1, 1) := dk_4 (dk_at dksX11_lengthOf_0 19 rfl rfl)
theorem dX11_lengthOf_20 : decode cX11_lengthOf 20 = .ok (.goto 4, 3) := dk_167 0 4 (dk_at dksX11_lengthOf_0 20 rfl rfl)
theorem dX11_lengthOf_23 : decode cX11_lengthOf 23 = .ok (.iconst 0, 1) := dk_3 (dk_at dksX11_lengthOf_0 23 rfl rfl)
theorem dX11_lengthOf_24 : decode cX11_lengthOf 24 = .ok (.iadd, 1) := dk_96 (dk_at dksX11_lengthOf_1 0 rfl rfl)
theorem dX11_lengthOf_25 : decode cX11_lengthOf 25 = .ok (.istore_n 2, 1) := dk_61 (dk_at dksX11_lengthOf_1 1 rfl rfl)
theorem dX11_lengthOf_26 : decode cX11_lengthOf 26 = .ok (.iinc 3 1, 3) := dk_132 3 1 (dk_at dksX11_lengthOf_1 2 rfl rfl)
theorem dX11_lengthOf_29 : decode cX11_lengthOf 29 = .ok (.goto (-25), 3) := dk_167 255 231 (dk_at dksX11_lengthOf_1 5 rfl rfl)
theorem dX11_lengthOf_32 : decode cX11_lengthOf 32 = .ok (.iload_n 2, 1) := dk_28 (dk_at dksX11_lengthOf_1 8 rfl rfl)
theorem dX11_lengthOf_33 : decode cX11_lengthOf 33 = .ok (.ireturn, 1) := dk_172 (dk_at dksX11_lengthOf_1 9 rfl rfl)
abbrev cX11_text : ByteArray := prog_12_method_54_code
def yX11_text : MethodName := ⟨RX11, "text", "(II)I"⟩
def dkwX11_text_2 : List UInt8 := [162, 0, 12, 42, 27, 28, 182, 0, 251, 167, 0, 4, 2, 172]
abbrev dktX11_text_2 : List UInt8 := dkwX11_text_2 ++ []
def dkwX11_text_1 : List UInt8 := [180, 0, 26, 29, 46, 6, 159, 0, 6, 16, 252, 172, 28, 155, 0, 22, 28, 42, 180, 0, 29, 29, 46]
abbrev dktX11_text_1 : List UInt8 := dkwX11_text_1 ++ dktX11_text_2
def dkwX11_text_0 : List UInt8 := [42, 180, 0, 7, 154, 0, 6, 16, 254, 172, 42, 3, 27, 182, 0, 143, 62, 29, 2, 159, 0, 13, 42]
abbrev dktX11_text_0 : List UInt8 := dkwX11_text_0 ++ dktX11_text_1
theorem dksX11_text_0 : cX11_text.data.toList.drop 0 = dktX11_text_0 := by decide +kernel
theorem dksX11_text_1 : cX11_text.data.toList.drop 23 = dktX11_text_1 := dk_seg dksX11_text_0 23 rfl rfl
theorem dksX11_text_2 : cX11_text.data.toList.drop 46 = dktX11_text_2 := dk_seg dksX11_text_1 23 rfl rfl
theorem dX11_text_0 : decode cX11_text 0 = .ok (.aload_n 0, 1) := dk_42 (dk_at dksX11_text_0 0 rfl rfl)
theorem dX11_text_1 : decode cX11_text 1 = .ok (.getfield 7, 3) := dk_180 0 7 (dk_at dksX11_text_0 1 rfl rfl)
theorem dX11_text_4 : decode cX11_text 4 = .ok (.ifCond .ne 6, 3) := dk_154 0 6 (dk_at dksX11_text_0 4 rfl rfl)
theorem dX11_text_7 : decode cX11_text 7 = .ok (.bipush (-2), 2) := dk_16 254 (dk_at dksX11_text_0 7 rfl rfl)
theorem dX11_text_9 : decode cX11_text 9 = .ok (.ireturn, 1) := dk_172 (dk_at dksX11_text_0 9 rfl rfl)
theorem dX11_text_10 : decode cX11_text 10 = .ok (.aload_n 0, 1) := dk_42 (dk_at dksX11_text_0 10 rfl rfl)
theorem dX11_text_11 : decode cX11_text 11 = .ok (.iconst 0, 1) := dk_3 (dk_at dksX11_text_0 11 rfl rfl)
theorem dX11_text_12 : decode cX11_text 12 = .ok (.iload_n 1, 1) := dk_27 (dk_at dksX11_text_0 12 rfl rfl)
theorem dX11_text_13 : decode cX11_text 13 = .ok (.invokevirtual 143, 3) := dk_182 0 143 (dk_at dksX11_text_0 13 rfl rfl)
theorem dX11_text_16 : decode cX11_text 16 = .ok (.istore_n 3, 1) := dk_62 (dk_at dksX11_text_0 16 rfl rfl)
theorem dX11_text_17 : decode cX11_text 17 = .ok (.iload_n 3, 1) := dk_29 (dk_at dksX11_text_0 17 rfl rfl)
theorem dX11_text_18 : decode cX11_text 18 = .ok (.iconst (-1), 1) := dk_2 (dk_at dksX11_text_0 18 rfl rfl)
theorem dX11_text_19 : decode cX11_text 19 = .ok (.if_icmp .eq 13, 3) := dk_159 0 13 (dk_at dksX11_text_0 19 rfl rfl)
theorem dX11_text_22 : decode cX11_text 22 = .ok (.aload_n 0, 1) := dk_42 (dk_at dksX11_text_0 22 rfl rfl)
theorem dX11_text_23 : decode cX11_text 23 = .ok (.getfield 26, 3) := dk_180 0 26 (dk_at dksX11_text_1 0 rfl rfl)
theorem dX11_text_26 : decode cX11_text 26 = .ok (.iload_n 3, 1) := dk_29 (dk_at dksX11_text_1 3 rfl rfl)
theorem dX11_text_27 : decode cX11_text 27 = .ok (.iaload, 1) := dk_46 (dk_at dksX11_text_1 4 rfl rfl)
theorem dX11_text_28 : decode cX11_text 28 = .ok (.iconst 3, 1) := dk_6 (dk_at dksX11_text_1 5 rfl rfl)
theorem dX11_text_29 : decode cX11_text 29 = .ok (.if_icmp .eq 6, 3) := dk_159 0 6 (dk_at dksX11_text_1 6 rfl rfl)
theorem dX11_text_32 : decode cX11_text 32 = .ok (.bipush (-4), 2) := dk_16 252 (dk_at dksX11_text_1 9 rfl rfl)
theorem dX11_text_34 : decode cX11_text 34 = .ok (.ireturn, 1) := dk_172 (dk_at dksX11_text_1 11 rfl rfl)
theorem dX11_text_35 : decode cX11_text 35 = .ok (.iload_n 2, 1) := dk_28 (dk_at dksX11_text_1 12 rfl rfl)
theorem dX11_text_36 : decode cX11_text 36 = .ok (.ifCond .lt 22, 3) := dk_155 0 22 (dk_at dksX11_text_1 13 rfl rfl)
theorem dX11_text_39 : decode cX11_text 39 = .ok (.iload_n 2, 1) := dk_28 (dk_at dksX11_text_1 16 rfl rfl)
theorem dX11_text_40 : decode cX11_text 40 = .ok (.aload_n 0, 1) := dk_42 (dk_at dksX11_text_1 17 rfl rfl)
theorem dX11_text_41 : decode cX11_text 41 = .ok (.getfield 29, 3) := dk_180 0 29 (dk_at dksX11_text_1 18 rfl rfl)
theorem dX11_text_44 : decode cX11_text 44 = .ok (.iload_n 3, 1) := dk_29 (dk_at dksX11_text_1 21 rfl rfl)
theorem dX11_text_45 : decode cX11_text 45 = .ok (.iaload, 1) := dk_46 (dk_at dksX11_text_1 22 rfl rfl)
theorem dX11_text_46 : decode cX11_text 46 = .ok (.if_icmp .ge 12, 3) := dk_162 0 12 (dk_at dksX11_text_2 0 rfl rfl)
theorem dX11_text_49 : decode cX11_text 49 = .ok (.aload_n 0, 1) := dk_42 (dk_at dksX11_text_2 3 rfl rfl)
theorem dX11_text_50 : decode cX11_text 50 = .ok (.iload_n 1, 1) := dk_27 (dk_at dksX11_text_2 4 rfl rfl)
theorem dX11_text_51 : decode cX11_text 51 = .ok (.iload_n 2, 1) := dk_28 (dk_at dksX11_text_2 5 rfl rfl)
theorem dX11_text_52 : decode cX11_text 52 = .ok (.invokevirtual 251, 3) := dk_182 0 251 (dk_at dksX11_text_2 6 rfl rfl)
theorem dX11_text_55 : decode cX11_text 55 = .ok (.goto 4, 3) := dk_167 0 4 (dk_at dksX11_text_2 9 rfl rfl)
theorem dX11_text_58 : decode cX11_text 58 = .ok (.iconst (-1), 1) := dk_2 (dk_at dksX11_text_2 12 rfl rfl)
theorem dX11_text_59 : decode cX11_text 59 = .ok (.ireturn, 1) := dk_172 (dk_at dksX11_text_2 13 rfl rfl)
abbrev cX11_kind : ByteArray := prog_12_method_55_code
def yX11_kind : MethodName := ⟨RX11, "kind", "(I)I"⟩
def dkwX11_kind_1 : List UInt8 := [167, 0, 9, 42, 180, 0, 26, 28, 46, 172]
abbrev dktX11_kind_1 : List UInt8 := dkwX11_kind_1 ++ []
def dkwX11_kind_0 : List UInt8 := [42, 180, 0, 7, 154, 0, 6, 16, 254, 172, 42, 3, 27, 182, 0, 143, 61, 28, 2, 160, 0, 7, 3]
abbrev dktX11_kind_0 : List UInt8 := dkwX11_kind_0 ++ dktX11_kind_1
theorem dksX11_kind_0 : cX11_kind.data.toList.drop 0 = dktX11_kind_0 := by decide +kernel
theorem dksX11_kind_1 : cX11_kind.data.toList.drop 23 = dktX11_kind_1 := dk_seg dksX11_kind_0 23 rfl rfl
theorem dX11_kind_0 : decode cX11_kind 0 = .ok (.aload_n 0, 1) := dk_42 (dk_at dksX11_kind_0 0 rfl rfl)
theorem dX11_kind_1 : decode cX11_kind 1 = .ok (.getfield 7, 3) := dk_180 0 7 (dk_at dksX11_kind_0 1 rfl rfl)
theorem dX11_kind_4 : decode cX11_kind 4 = .ok (.ifCond .ne 6, 3) := dk_154 0 6 (dk_at dksX11_kind_0 4 rfl rfl)
theorem dX11_kind_7 : decode cX11_kind 7 = .ok (.bipush (-2), 2) := dk_16 254 (dk_at dksX11_kind_0 7 rfl rfl)
theorem dX11_kind_9 : decode cX11_kind 9 = .ok (.ireturn, 1) := dk_172 (dk_at dksX11_kind_0 9 rfl rfl)
theorem dX11_kind_10 : decode cX11_kind 10 = .ok (.aload_n 0, 1) := dk_42 (dk_at dksX11_kind_0 10 rfl rfl)
theorem dX11_kind_11 : decode cX11_kind 11 = .ok (.iconst 0, 1) := dk_3 (dk_at dksX11_kind_0 11 rfl rfl)
theorem dX11_kind_12 : decode cX11_kind 12 = .ok (.iload_n 1, 1) := dk_27 (dk_at dksX11_kind_0 12 rfl rfl)
theorem dX11_kind_13 : decode cX11_kind 13 = .ok (.invokevirtual 143, 3) := dk_182 0 143 (dk_at dksX11_kind_0 13 rfl rfl)
theorem dX11_kind_16 : decode cX11_kind 16 = .ok (.istore_n 2, 1) := dk_61 (dk_at dksX11_kind_0 16 rfl rfl)
theorem dX11_kind_17 : decode cX11_kind 17 = .ok (.iload_n 2, 1) := dk_28 (dk_at dksX11_kind_0 17 rfl rfl)
theorem dX11_kind_18 : decode cX11_kind 18 = .ok (.iconst (-1), 1) := dk_2 (dk_at dksX11_kind_0 18 rfl rfl)
theorem dX11_kind_19 : decode cX11_kind 19 = .ok (.if_icmp .ne 7, 3) := dk_160 0 7 (dk_at dksX11_kind_0 19 rfl rfl)
theorem dX11_kind_22 : decode cX11_kind 22 = .ok (.iconst 0, 1) := dk_3 (dk_at dksX11_kind_0 22 rfl rfl)
theorem dX11_kind_23 : decode cX11_kind 23 = .ok (.goto 9, 3) := dk_167 0 9 (dk_at dksX11_kind_1 0 rfl rfl)
theorem dX11_kind_26 : decode cX11_kind 26 = .ok (.aload_n 0, 1) := dk_42 (dk_at dksX11_kind_1 3 rfl rfl)
theorem dX11_kind_27 : decode cX11_kind 27 = .ok (.getfield 26, 3) := dk_180 0 26 (dk_at dksX11_kind_1 4 rfl rfl)
theorem dX11_kind_30 : decode cX11_kind 30 = .ok (.iload_n 2, 1) := dk_28 (dk_at dksX11_kind_1 7 rfl rfl)
theorem dX11_kind_31 : decode cX11_kind 31 = .ok (.iaload, 1) := dk_46 (dk_at dksX11_kind_1 8 rfl rfl)
theorem dX11_kind_32 : decode cX11_kind 32 = .ok (.ireturn, 1) := dk_172 (dk_at dksX11_kind_1 9 rfl rfl)
abbrev cX11_count : ByteArray := prog_12_method_56_code
def yX11_count : MethodName := ⟨RX11, "count", "(I)I"⟩
def dkwX11_count_2 : List UInt8 := [27, 182, 0, 233, 172]
abbrev dktX11_count_2 : List UInt8 := dkwX11_count_2 ++ []
def dkwX11_count_1 : List UInt8 := [167, 0, 28, 42, 180, 0, 26, 28, 46, 4, 160, 0, 12, 42, 3, 27, 182, 0, 240, 167, 0, 9, 42, 3]
abbrev dktX11_count_1 : List UInt8 := dkwX11_count_1 ++ dktX11_count_2
def dkwX11_count_0 : List UInt8 := [42, 180, 0, 7, 154, 0, 6, 16, 254, 172, 42, 3, 27, 182, 0, 143, 61, 28, 2, 160, 0, 8, 16, 252]
abbrev dktX11_count_0 : List UInt8 := dkwX11_count_0 ++ dktX11_count_1
theorem dksX11_count_0 : cX11_count.data.toList.drop 0 = dktX11_count_0 := by decide +kernel
theorem dksX11_count_1 : cX11_count.data.toList.drop 24 = dktX11_count_1 := dk_seg dksX11_count_0 24 rfl rfl
theorem dksX11_count_2 : cX11_count.data.toList.drop 48 = dktX11_count_2 := dk_seg dksX11_count_1 24 rfl rfl
theorem dX11_count_0 : decode cX11_count 0 = .ok (.aload_n 0, 1) := dk_42 (dk_at dksX11_count_0 0 rfl rfl)
theorem dX11_count_1 : decode cX11_count 1 = .ok (.getfield 7, 3) := dk_180 0 7 (dk_at dksX11_count_0 1 rfl rfl)
theorem dX11_count_4 : decode cX11_count 4 = .ok (.ifCond .ne 6, 3) := dk_154 0 6 (dk_at dksX11_count_0 4 rfl rfl)
theorem dX11_count_7 : decode cX11_count 7 = .ok (.bipush (-2), 2) := dk_16 254 (dk_at dksX11_count_0 7 rfl rfl)
theorem dX11_count_9 : decode cX11_count 9 = .ok (.ireturn, 1) := dk_172 (dk_at dksX11_count_0 9 rfl rfl)
theorem dX11_count_10 : decode cX11_count 10 = .ok (.aload_n 0, 1) := dk_42 (dk_at dksX11_count_0 10 rfl rfl)
theorem dX11_count_11 : decode cX11_count 11 = .ok (.iconst 0, 1) := dk_3 (dk_at dksX11_count_0 11 rfl rfl)
theorem dX11_count_12 : decode cX11_count 12 = .ok (.iload_n 1, 1) := dk_27 (dk_at dksX11_count_0 12 rfl rfl)
theorem dX11_count_13 : decode cX11_count 13 = .ok (.invokevirtual 143, 3) := dk_182 0 143 (dk_at dksX11_count_0 13 rfl rfl)
theorem dX11_count_16 : decode cX11_count 16 = .ok (.istore_n 2, 1) := dk_61 (dk_at dksX11_count_0 16 rfl rfl)
theorem dX11_count_17 : decode cX11_count 17 = .ok (.iload_n 2, 1) := dk_28 (dk_at dksX11_count_0 17 rfl rfl)
theorem dX11_count_18 : decode cX11_count 18 = .ok (.iconst (-1), 1) := dk_2 (dk_at dksX11_count_0 18 rfl rfl)
theorem dX11_count_19 : decode cX11_count 19 = .ok (.if_icmp .ne 8, 3) := dk_160 0 8 (dk_at dksX11_count_0 19 rfl rfl)
theorem dX11_count_22 : decode cX11_count 22 = .ok (.bipush (-4), 2) := dk_16 252 (dk_at dksX11_count_0 22 rfl rfl)
theorem dX11_count_24 : decode cX11_count 24 = .ok (.goto 28, 3) := dk_167 0 28 (dk_at dksX11_count_1 0 rfl rfl)
theorem dX11_count_27 : decode cX11_count 27 = .ok (.aload_n 0, 1) := dk_42 (dk_at dksX11_count_1 3 rfl rfl)
theorem dX11_count_28 : decode cX11_count 28 = .ok (.getfield 26, 3) := dk_180 0 26 (dk_at dksX11_count_1 4 rfl rfl)
theorem dX11_count_31 : decode cX11_count 31 = .ok (.iload_n 2, 1) := dk_28 (dk_at dksX11_count_1 7 rfl rfl)
theorem dX11_count_32 : decode cX11_count 32 = .ok (.iaload, 1) := dk_46 (dk_at dksX11_count_1 8 rfl rfl)
theorem dX11_count_33 : decode cX11_count 33 = .ok (.iconst 1, 1) := dk_4 (dk_at dksX11_count_1 9 rfl rfl)
theorem dX11_count_34 : decode cX11_count 34 = .ok (.if_icmp .ne 12, 3) := dk_160 0 12 (dk_at dksX11_count_1 10 rfl rfl)
theorem dX11_count_37 : decode cX11_count 37 = .ok (.aload_n 0, 1) := dk_42 (dk_at dksX11_count_1 13 rfl rfl)
theorem dX11_count_38 : decode cX11_count 38 = .ok (.iconst 0, 1) := dk_3 (dk_at dksX11_count_1 14 rfl rfl)
theorem dX11_count_39 : decode cX11_count 39 = .ok (.iload_n 1, 1) := dk_27 (dk_at dksX11_count_1 15 rfl rfl)
theorem dX11_count_40 : decode cX11_count 40 = .ok (.invokevirtual 240, 3) := dk_182 0 240 (dk_at dksX11_count_1 16 rfl rfl)
theorem dX11_count_43 : decode cX11_count 43 = .ok (.goto 9, 3) := dk_167 0 9 (dk_at dksX11_count_1 19 rfl rfl)
theorem dX11_count_46 : decode cX11_count 46 = .ok (.aload_n 0, 1) := dk_42 (dk_at dksX11_count_1 22 rfl rfl)
theorem dX11_count_47 : decode cX11_count 47 = .ok (.iconst 0, 1) := dk_3 (dk_at dksX11_count_1 23 rfl rfl)
theorem dX11_count_48 : decode cX11_count 48 = .ok (.iload_n 1, 1) := dk_27 (dk_at dksX11_count_2 0 rfl rfl)
theorem dX11_count_49 : decode cX11_count 49 = .ok (.invokevirtual 233, 3) := dk_182 0 233 (dk_at dksX11_count_2 1 rfl rfl)
theorem dX11_count_52 : decode cX11_count 52 = .ok (.ireturn, 1) := dk_172 (dk_at dksX11_count_2 4 rfl rfl)
abbrev cX11_size : ByteArray := prog_12_method_57_code
def yX11_size : MethodName := ⟨RX11, "size", "(I)I"⟩
def dkwX11_size_2 : List UInt8 := [172]
abbrev dktX11_size_2 : List UInt8 := dkwX11_size_2 ++ []
def dkwX11_size_1 : List UInt8 := [167, 0, 24, 42, 180, 0, 26, 28, 46, 4, 160, 0, 8, 16, 249, 167, 0, 9, 42, 180, 0, 29, 28, 46]
abbrev dktX11_size_1 : List UInt8 := dkwX11_size_1 ++ dktX11_size_2
def dkwX11_size_0 : List UInt8 := [42, 180, 0, 7, 154, 0, 6, 16, 254, 172, 42, 3, 27, 182, 0, 143, 61, 28, 2, 160, 0, 8, 16, 252]
abbrev dktX11_size_0 : List UInt8 := dkwX11_size_0 ++ dktX11_size_1
theorem dksX11_size_0 : cX11_size.data.toList.drop 0 = dktX11_size_0 := by decide +kernel
theorem dksX11_size_1 : cX11_size.data.toList.drop 24 = dktX11_size_1 := dk_seg dksX11_size_0 24 rfl rfl
theorem dksX11_size_2 : cX11_size.data.toList.drop 48 = dktX11_size_2 := dk_seg dksX11_size_1 24 rfl rfl
theorem dX11_size_0 : decode cX11_size 0 = .ok (.aload_n 0, 1) := dk_42 (dk_at dksX11_size_0 0 rfl rfl)
theorem dX11_size_1 : decode cX11_size 1 = .ok (.getfield 7, 3) := dk_180 0 7 (dk_at dksX11_size_0 1 rfl rfl)
theorem dX11_size_4 : decode cX11_size 4 = .ok (.ifCond .ne 6, 3) := dk_154 0 6 (dk_at dksX11_size_0 4 rfl rfl)
theorem dX11_size_7 : decode cX11_size 7 = .ok (.bipush (-2), 2) := dk_16 254 (dk_at dksX11_size_0 7 rfl rfl)
theorem dX11_size_9 : decode cX11_size 9 = .ok (.ireturn, 1) := dk_172 (dk_at dksX11_size_0 9 rfl rfl)
theorem dX11_size_10 : decode cX11_size 10 = .ok (.aload_n 0, 1) := dk_42 (dk_at dksX11_size_0 10 rfl rfl)
theorem dX11_size_11 : decode cX11_size 11 = .ok (.iconst 0, 1) := dk_3 (dk_at dksX11_size_0 11 rfl rfl)
theorem dX11_size_12 : decode cX11_size 12 = .ok (.iload_n 1, 1) := dk_27 (dk_at dksX11_size_0 12 rfl rfl)
theorem dX11_size_13 : decode cX11_size 13 = .ok (.invokevirtual 143, 3) := dk_182 0 143 (dk_at dksX11_size_0 13 rfl rfl)
theorem dX11_size_16 : decode cX11_size 16 = .ok (.istore_n 2, 1) := dk_61 (dk_at dksX11_size_0 16 rfl rfl)
theorem dX11_size_17 : decode cX11_size 17 = .ok (.iload_n 2, 1) := dk_28 (dk_at dksX11_size_0 17 rfl rfl)
theorem dX11_size_18 : decode cX11_size 18 = .ok (.iconst (-1), 1) := dk_2 (dk_at dksX11_size_0 18 rfl rfl)
theorem dX11_size_19 : decode cX11_size 19 = .ok (.if_icmp .ne 8, 3) := dk_160 0 8 (dk_at dksX11_size_0 19 rfl rfl)
theorem dX11_size_22 : decode cX11_size 22 = .ok (.bipush (-4), 2) := dk_16 252 (dk_at dksX11_size_0 22 rfl rfl)
theorem dX11_size_24 : decode cX11_size 24 = .ok (.goto 24, 3) := dk_167 0 24 (dk_at dksX11_size_1 0 rfl rfl)
theorem dX11_size_27 : decode cX11_size 27 = .ok (.aload_n 0, 1) := dk_42 (dk_at dksX11_size_1 3 rfl rfl)
theorem dX11_size_28 : decode cX11_size 28 = .ok (.getfield 26, 3) := dk_180 0 26 (dk_at dksX11_size_1 4 rfl rfl)
theorem dX11_size_31 : decode cX11_size 31 = .ok (.iload_n 2, 1) := dk_28 (dk_at dksX11_size_1 7 rfl rfl)
theorem dX11_size_32 : decode cX11_size 32 = .ok (.iaload, 1) := dk_46 (dk_at dksX11_size_1 8 rfl rfl)
theorem dX11_size_33 : decode cX11_size 33 = .ok (.iconst 1, 1) := dk_4 (dk_at dksX11_size_1 9 rfl rfl)
theorem dX11_size_34 : decode cX11_size 34 = .ok (.if_icmp .ne 8, 3) := dk_160 0 8 (dk_at dksX11_size_1 10 rfl rfl)
theorem dX11_size_37 : decode cX11_size 37 = .ok (.bipush (-7), 2) := dk_16 249 (dk_at dksX11_size_1 13 rfl rfl)
theorem dX11_size_39 : decode cX11_size 39 = .ok (.goto 9, 3) := dk_167 0 9 (dk_at dksX11_size_1 15 rfl rfl)
theorem dX11_size_42 : decode cX11_size 42 = .ok (.aload_n 0, 1) := dk_42 (dk_at dksX11_size_1 18 rfl rfl)
theorem dX11_size_43 : decode cX11_size 43 = .ok (.getfield 29, 3) := dk_180 0 29 (dk_at dksX11_size_1 19 rfl rfl)
theorem dX11_size_46 : decode cX11_size 46 = .ok (.iload_n 2, 1) := dk_28 (dk_at dksX11_size_1 22 rfl rfl)
theorem dX11_size_47 : decode cX11_size 47 = .ok (.iaload, 1) := dk_46 (dk_at dksX11_size_1 23 rfl rfl)
theorem dX11_size_48 : decode cX11_size 48 = .ok (.ireturn, 1) := dk_172 (dk_at dksX11_size_2 0 rfl rfl)
abbrev cX11_set : ByteArray := prog_12_method_59_code
def yX11_set : MethodName := ⟨RX11, "set", "(IJJ)I"⟩
def dkwX11_set_4 : List UInt8 := [16, 96, 182, 0, 226, 42, 27, 182, 1, 29, 172]
abbrev dktX11_set_4 : List UInt8 := dkwX11_set_4 ++ []
def dkwX11_set_3 : List UInt8 := [182, 0, 223, 54, 6, 42, 180, 0, 96, 21, 6, 32, 80, 42, 180, 0, 99, 21, 6, 22, 4, 80, 42]
abbrev dktX11_set_3 : List UInt8 := dkwX11_set_3 ++ dktX11_set_4
def dkwX11_set_2 : List UInt8 := [182, 0, 219, 17, 0, 240, 96, 42, 180, 0, 133, 164, 0, 6, 16, 246, 172, 42, 16, 10, 27, 3]
abbrev dktX11_set_2 : List UInt8 := dkwX11_set_2 ++ dktX11_set_3
def dkwX11_set_1 : List UInt8 := [182, 0, 143, 2, 160, 0, 6, 16, 252, 172, 42, 3, 27, 32, 182, 0, 172, 2, 160, 0, 21, 42]
abbrev dktX11_set_1 : List UInt8 := dkwX11_set_1 ++ dktX11_set_2
def dkwX11_set_0 : List UInt8 := [42, 180, 0, 7, 154, 0, 6, 16, 254, 172, 32, 184, 0, 209, 154, 0, 6, 16, 253, 172, 42, 3, 27]
abbrev dktX11_set_0 : List UInt8 := dkwX11_set_0 ++ dktX11_set_1
theorem dksX11_set_0 : cX11_set.data.toList.drop 0 = dktX11_set_0 := by decide +kernel
theorem dksX11_set_1 : cX11_set.data.toList.drop 23 = dktX11_set_1 := dk_seg dksX11_set_0 23 rfl rfl
theorem dksX11_set_2 : cX11_set.data.toList.drop 45 = dktX11_set_2 := dk_seg dksX11_set_1 22 rfl rfl
theorem dksX11_set_3 : cX11_set.data.toList.drop 67 = dktX11_set_3 := dk_seg dksX11_set_2 22 rfl rfl
theorem dksX11_set_4 : cX11_set.data.toList.drop 90 = dktX11_set_4 := dk_seg dksX11_set_3 23 rfl rfl
theorem dX11_set_0 : decode cX11_set 0 = .ok (.aload_n 0, 1) := dk_42 (dk_at dksX11_set_0 0 rfl rfl)
theorem dX11_set_1 : decode cX11_set 1 = .ok (.getfield 7, 3) := dk_180 0 7 (dk_at dksX11_set_0 1 rfl rfl)
theorem dX11_set_4 : decode cX11_set 4 = .ok (.ifCond .ne 6, 3) := dk_154 0 6 (dk_at dksX11_set_0 4 rfl rfl)
theorem dX11_set_7 : decode cX11_set 7 = .ok (.bipush (-2), 2) := dk_16 254 (dk_at dksX11_set_0 7 rfl rfl)
theorem dX11_set_9 : decode cX11_set 9 = .ok (.ireturn, 1) := dk_172 (dk_at dksX11_set_0 9 rfl rfl)
theorem dX11_set_10 : decode cX11_set 10 = .ok (.lload_n 2, 1) := dk_32 (dk_at dksX11_set_0 10 rfl rfl)
theorem dX11_set_11 : decode cX11_set 11 = .ok (.invokestatic 209, 3) := dk_184 0 209 (dk_at dksX11_set_0 11 rfl rfl)
theorem dX11_set_14 : decode cX11_set 14 = .ok (.ifCond .ne 6, 3) := dk_154 0 6 (dk_at dksX11_set_0 14 rfl rfl)
theorem dX11_set_17 : decode cX11_set 17 = .ok (.bipush (-3), 2) := dk_16 253 (dk_at dksX11_set_0 17 rfl rfl)
theorem dX11_set_19 : decode cX11_set 19 = .ok (.ireturn, 1) := dk_172 (dk_at dksX11_set_0 19 rfl rfl)
theorem dX11_set_20 : decode cX11_set 20 = .ok (.aload_n 0, 1) := dk_42 (dk_at dksX11_set_0 20 rfl rfl)
theorem dX11_set_21 : decode cX11_set 21 = .ok (.iconst 0, 1) := dk_3 (dk_at dksX11_set_0 21 rfl rfl)
theorem dX11_set_22 : decode cX11_set 22 = .ok (.iload_n 1, 1) := dk_27 (dk_at dksX11_set_0 22 rfl rfl)
theorem dX11_set_23 : decode cX11_set 23 = .ok (.invokevirtual 143, 3) := dk_182 0 143 (dk_at dksX11_set_1 0 rfl rfl)
theorem dX11_set_26 : decode cX11_set 26 = .ok (.iconst (-1), 1) := dk_2 (dk_at dksX11_set_1 3 rfl rfl)
theorem dX11_set_27 : decode cX11_set 27 = .ok (.if_icmp .ne 6, 3) := dk_160 0 6 (dk_at dksX11_set_1 4 rfl rfl)
theorem dX11_set_30 : decode cX11_set 30 = .ok (.bipush (-4), 2) := dk_16 252 (dk_at dksX11_set_1 7 rfl rfl)
theorem dX11_set_32 : decode cX11_set 32 = .ok (.ireturn, 1) := dk_172 (dk_at dksX11_set_1 9 rfl rfl)
theorem dX11_set_33 : decode cX11_set 33 = .ok (.aload_n 0, 1) := dk_42 (dk_at dksX11_set_1 10 rfl rfl)
theorem dX11_set_34 : decode cX11_set 34 = .ok (.iconst 0, 1) := dk_3 (dk_at dksX11_set_1 11 rfl rfl)
theorem dX11_set_35 : decode cX11_set 35 = .ok (.iload_n 1, 1) := dk_27 (dk_at dksX11_set_1 12 rfl rfl)
theorem dX11_set_36 : decode cX11_set 36 = .ok (.lload_n 2, 1) := dk_32 (dk_at dksX11_set_1 13 rfl rfl)
theorem dX11_set_37 : decode cX11_set 37 = .ok (.invokevirtual 172, 3) := dk_182 0 172 (dk_at dksX11_set_1 14 rfl rfl)
theorem dX11_set_40 : decode cX11_set 40 = .ok (.iconst (-1), 1) := dk_2 (dk_at dksX11_set_1 17 rfl rfl)
theorem dX11_set_41 : decode cX11_set 41 = .ok (.if_icmp .ne 21, 3) := dk_160 0 21 (dk_at dksX11_set_1 18 rfl rfl)
theorem dX11_set_44 : decode cX11_set 44 = .ok (.aload_n 0, 1) := dk_42 (dk_at dksX11_set_1 21 rfl rfl)
theorem dX11_set_45 : decode cX11_set 45 = .ok (.invokevirtual 219, 3) := dk_182 0 219 (dk_at dksX11_set_2 0 rfl rfl)
theorem dX11_set_48 : decode cX11_set 48 = .ok (.sipush 240, 3) := dk_17 0 240 (dk_at dksX11_set_2 3 rfl rfl)
theorem dX11_set_51 : decode cX11_set 51 = .ok (.iadd, 1) := dk_96 (dk_at dksX11_set_2 6 rfl rfl)
theorem dX11_set_52 : decode cX11_set 52 = .ok (.aload_n 0, 1) := dk_42 (dk_at dksX11_set_2 7 rfl rfl)
theorem dX11_set_53 : decode cX11_set 53 = .ok (.getfield 133, 3) := dk_180 0 133 (dk_at dksX11_set_2 8 rfl rfl)
theorem dX11_set_56 : decode cX11_set 56 = .ok (.if_icmp .le 6, 3) := dk_164 0 6 (dk_at dksX11_set_2 11 rfl rfl)
theorem dX11_set_59 : decode cX11_set 59 = .ok (.bipush (-10), 2) := dk_16 246 (dk_at dksX11_set_2 14 rfl rfl)
theorem dX11_set_61 : decode cX11_set 61 = .ok (.ireturn, 1) := dk_172 (dk_at dksX11_set_2 16 rfl rfl)
theorem dX11_set_62 : decode cX11_set 62 = .ok (.aload_n 0, 1) := dk_42 (dk_at dksX11_set_2 17 rfl rfl)
theorem dX11_set_63 : decode cX11_set 63 = .ok (.bipush 10, 2) := dk_16 10 (dk_at dksX11_set_2 18 rfl rfl)
theorem dX11_set_65 : decode cX11_set 65 = .ok (.iload_n 1, 1) := dk_27 (dk_at dksX11_set_2 20 rfl rfl)
theorem dX11_set_66 : decode cX11_set 66 = .ok (.iconst 0, 1) := dk_3 (dk_at dksX11_set_2 21 rfl rfl)
theorem dX11_set_67 : decode cX11_set 67 = .ok (.invokevirtual 223, 3) := dk_182 0 223 (dk_at dksX11_set_3 0 rfl rfl)
theorem dX11_set_70 : decode cX11_set 70 = .ok (.istore 6, 2) := dk_54 6 (dk_at dksX11_set_3 3 rfl rfl)
theorem dX11_set_72 : decode cX11_set 72 = .ok (.aload_n 0, 1) := dk_42 (dk_at dksX11_set_3 5 rfl rfl)
theorem dX11_set_73 : decode cX11_set 73 = .ok (.getfield 96, 3) := dk_180 0 96 (dk_at dksX11_set_3 6 rfl rfl)
theorem dX11_set_76 : decode cX11_set 76 = .ok (.iload 6, 2) := dk_21 6 (dk_at dksX11_set_3 9 rfl rfl)
theorem dX11_set_78 : decode cX11_set 78 = .ok (.lload_n 2, 1) := dk_32 (dk_at dksX11_set_3 11 rfl rfl)
theorem dX11_set_79 : decode cX11_set 79 = .ok (.lastore, 1) := dk_80 (dk_at dksX11_set_3 12 rfl rfl)
theorem dX11_set_80 : decode cX11_set 80 = .ok (.aload_n 0, 1) := dk_42 (dk_at dksX11_set_3 13 rfl rfl)
theorem dX11_set_81 : decode cX11_set 81 = .ok (.getfield 99, 3) := dk_180 0 99 (dk_at dksX11_set_3 14 rfl rfl)
theorem dX11_set_84 : decode cX11_set 84 = .ok (.iload 6, 2) := dk_21 6 (dk_at dksX11_set_3 17 rfl rfl)
theorem dX11_set_86 : decode cX11_set 86 = .ok (.lload 4, 2) := dk_22 4 (dk_at dksX11_set_3 19 rfl rfl)
theorem dX11_set_88 : decode cX11_set 88 = .ok (.lastore, 1) := dk_80 (dk_at dksX11_set_3 21 rfl rfl)
theorem dX11_set_89 : decode cX11_set 89 = .ok (.aload_n 0, 1) := dk_42 (dk_at dksX11_set_3 22 rfl rfl)
theorem dX11_set_90 : decode cX11_set 90 = .ok (.bipush 96, 2) := dk_16 96 (dk_at dksX11_set_4 0 rfl rfl)
theorem dX11_set_92 : decode cX11_set 92 = .ok (.invokevirtual 226, 3) := dk_182 0 226 (dk_at dksX11_set_4 2 rfl rfl)
theorem dX11_set_95 : decode cX11_set 95 = .ok (.aload_n 0, 1) := dk_42 (dk_at dksX11_set_4 5 rfl rfl)
theorem dX11_set_96 : decode cX11_set 96 = .ok (.iload_n 1, 1) := dk_27 (dk_at dksX11_set_4 6 rfl rfl)
theorem dX11_set_97 : decode cX11_set 97 = .ok (.invokevirtual 285, 3) := dk_182 1 29 (dk_at dksX11_set_4 7 rfl rfl)
theorem dX11_set_100 : decode cX11_set 100 = .ok (.ireturn, 1) := dk_172 (dk_at dksX11_set_4 10 rfl rfl)
abbrev cX11_many : ByteArray := prog_12_method_58_code
def yX11_many : MethodName := ⟨RX11, "many", "(I)I"⟩
def dkwX11_many_1 : List UInt8 := [160, 0, 7, 4, 167, 0, 4, 3, 96, 61, 132, 3, 1, 167, 255, 225, 28, 172]
abbrev dktX11_many_1 : List UInt8 := dkwX11_many_1 ++ []
def dkwX11_many_0 : List UInt8 := [3, 61, 3, 62, 29, 42, 180, 0, 45, 3, 46, 162, 0, 27, 28, 42, 180, 0, 48, 29, 46, 27]
abbrev dktX11_many_0 : List UInt8 := dkwX11_many_0 ++ dktX11_many_1
theorem dksX11_many_0 : cX11_many.data.toList.drop 0 = dktX11_many_0 := by decide +kernel
theorem dksX11_many_1 : cX11_many.data.toList.drop 22 = dktX11_many_1 := dk_seg dksX11_many_0 22 rfl rfl
theorem dX11_many_0 : decode cX11_many 0 = .ok (.iconst 0, 1) := dk_3 (dk_at dksX11_many_0 0 rfl rfl)
theorem dX11_many_1 : decode cX11_many 1 = .ok (.istore_n 2, 1) := dk_61 (dk_at dksX11_many_0 1 rfl rfl)
theorem dX11_many_2 : decode cX11_many 2 = .ok (.iconst 0, 1) := dk_3 (dk_at dksX11_many_0 2 rfl rfl)
theorem dX11_many_3 : decode cX11_many 3 = .ok (.istore_n 3, 1) := dk_62 (dk_at dksX11_many_0 3 rfl rfl)
theorem dX11_many_4 : decode cX11_many 4 = .ok (.iload_n 3, 1) := dk_29 (dk_at dksX11_many_0 4 rfl rfl)
theorem dX11_many_5 : decode cX11_many 5 = .ok (.aload_n 0, 1) := dk_42 (dk_at dksX11_many_0 5 rfl rfl)
theorem dX11_many_6 : decode cX11_many 6 = .ok (.getfield 45, 3) := dk_180 0 45 (dk_at dksX11_many_0 6 rfl rfl)
theorem dX11_many_9 : decode cX11_many 9 = .ok (.iconst 0, 1) := dk_3 (dk_at dksX11_many_0 9 rfl rfl)
theorem dX11_many_10 : decode cX11_many 10 = .ok (.iaload, 1) := dk_46 (dk_at dksX11_many_0 10 rfl rfl)
theorem dX11_many_11 : decode cX11_many 11 = .ok (.if_icmp .ge 27, 3) := dk_162 0 27 (dk_at dksX11_many_0 11 rfl rfl)
theorem dX11_many_14 : decode cX11_many 14 = .ok (.iload_n 2, 1) := dk_28 (dk_at dksX11_many_0 14 rfl rfl)
theorem dX11_many_15 : decode cX11_many 15 = .ok (.aload_n 0, 1) := dk_42 (dk_at dksX11_many_0 15 rfl rfl)
theorem dX11_many_16 : decode cX11_many 16 = .ok (.getfield 48, 3) := dk_180 0 48 (dk_at dksX11_many_0 16 rfl rfl)
theorem dX11_many_19 : decode cX11_many 19 = .ok (.iload_n 3, 1) := dk_29 (dk_at dksX11_many_0 19 rfl rfl)
theorem dX11_many_20 : decode cX11_many 20 = .ok (.iaload, 1) := dk_46 (dk_at dksX11_many_0 20 rfl rfl)
theorem dX11_many_21 : decode cX11_many 21 = .ok (.iload_n 1, 1) := dk_27 (dk_at dksX11_many_0 21 rfl rfl)
theorem dX11_many_22 : decode cX11_many 22 = .ok (.if_icmp .ne 7, 3) := dk_160 0 7 (dk_at dksX11_many_1 0 rfl rfl)
theorem dX11_many_25 : decode cX11_many 25 = .ok (.iconst 1, 1) := dk_4 (dk_at dksX11_many_1 3 rfl rfl)
theorem dX11_many_26 : decode cX11_many 26 = .ok (.goto 4, 3) := dk_167 0 4 (dk_at dksX11_many_1 4 rfl rfl)
theorem dX11_many_29 : decode cX11_many 29 = .ok (.iconst 0, 1) := dk_3 (dk_at dksX11_many_1 7 rfl rfl)
theorem dX11_many_30 : decode cX11_many 30 = .ok (.iadd, 1) := dk_96 (dk_at dksX11_many_1 8 rfl rfl)
theorem dX11_many_31 : decode cX11_many 31 = .ok (.istore_n 2, 1) := dk_61 (dk_at dksX11_many_1 9 rfl rfl)
theorem dX11_many_32 : decode cX11_many 32 = .ok (.iinc 3 1, 3) := dk_132 3 1 (dk_at dksX11_many_1 10 rfl rfl)
theorem dX11_many_35 : decode cX11_many 35 = .ok (.goto (-31), 3) := dk_167 255 225 (dk_at dksX11_many_1 13 rfl rfl)
theorem dX11_many_38 : decode cX11_many 38 = .ok (.iload_n 2, 1) := dk_28 (dk_at dksX11_many_1 16 rfl rfl)
theorem dX11_many_39 : decode cX11_many 39 = .ok (.ireturn, 1) := dk_172 (dk_at dksX11_many_1 17 rfl rfl)
abbrev cX11_drop : ByteArray := prog_12_method_60_code
def yX11_drop : MethodName := ⟨RX11, "drop", "(IJ)I"⟩
def dkwX11_drop_3 : List UInt8 := [182, 1, 29, 172]
abbrev dktX11_drop_3 : List UInt8 := dkwX11_drop_3 ++ []
def dkwX11_drop_2 : List UInt8 := [27, 3, 182, 0, 223, 54, 4, 42, 180, 0, 96, 21, 4, 32, 80, 42, 16, 96, 182, 0, 226, 42, 27]
abbrev dktX11_drop_2 : List UInt8 := dkwX11_drop_2 ++ dktX11_drop_3
def dkwX11_drop_1 : List UInt8 := [182, 0, 143, 2, 159, 0, 14, 42, 3, 27, 32, 182, 0, 172, 2, 160, 0, 6, 16, 252, 172, 42, 16, 11]
abbrev dktX11_drop_1 : List UInt8 := dkwX11_drop_1 ++ dktX11_drop_2
def dkwX11_drop_0 : List UInt8 := [42, 180, 0, 7, 154, 0, 6, 16, 254, 172, 32, 184, 0, 209, 154, 0, 6, 16, 253, 172, 42, 3, 27]
abbrev dktX11_drop_0 : List UInt8 := dkwX11_drop_0 ++ dktX11_drop_1
theorem dksX11_drop_0 : cX11_drop.data.toList.drop 0 = dktX11_drop_0 := by decide +kernel
theorem dksX11_drop_1 : cX11_drop.data.toList.drop 23 = dktX11_drop_1 := dk_seg dksX11_drop_0 23 rfl rfl
theorem dksX11_drop_2 : cX11_drop.data.toList.drop 47 = dktX11_drop_2 := dk_seg dksX11_drop_1 24 rfl rfl
theorem dksX11_drop_3 : cX11_drop.data.toList.drop 70 = dktX11_drop_3 := dk_seg dksX11_drop_2 23 rfl rfl
theorem dX11_drop_0 : decode cX11_drop 0 = .ok (.aload_n 0, 1) := dk_42 (dk_at dksX11_drop_0 0 rfl rfl)
theorem dX11_drop_1 : decode cX11_drop 1 = .ok (.getfield 7, 3) := dk_180 0 7 (dk_at dksX11_drop_0 1 rfl rfl)
theorem dX11_drop_4 : decode cX11_drop 4 = .ok (.ifCond .ne 6, 3) := dk_154 0 6 (dk_at dksX11_drop_0 4 rfl rfl)
theorem dX11_drop_7 : decode cX11_drop 7 = .ok (.bipush (-2), 2) := dk_16 254 (dk_at dksX11_drop_0 7 rfl rfl)
theorem dX11_drop_9 : decode cX11_drop 9 = .ok (.ireturn, 1) := dk_172 (dk_at dksX11_drop_0 9 rfl rfl)
theorem dX11_drop_10 : decode cX11_drop 10 = .ok (.lload_n 2, 1) := dk_32 (dk_at dksX11_drop_0 10 rfl rfl)
theorem dX11_drop_11 : decode cX11_drop 11 = .ok (.invokestatic 209, 3) := dk_184 0 209 (dk_at dksX11_drop_0 11 rfl rfl)
theorem dX11_drop_14 : decode cX11_drop 14 = .ok (.ifCond .ne 6, 3) := dk_154 0 6 (dk_at dksX11_drop_0 14 rfl rfl)
theorem dX11_drop_17 : decode cX11_drop 17 = .ok (.bipush (-3), 2) := dk_16 253 (dk_at dksX11_drop_0 17 rfl rfl)
theorem dX11_drop_19 : decode cX11_drop 19 = .ok (.ireturn, 1) := dk_172 (dk_at dksX11_drop_0 19 rfl rfl)
theorem dX11_drop_20 : decode cX11_drop 20 = .ok (.aload_n 0, 1) := dk_42 (dk_at dksX11_drop_0 20 rfl rfl)
theorem dX11_drop_21 : decode cX11_drop 21 = .ok (.iconst 0, 1) := dk_3 (dk_at dksX11_drop_0 21 rfl rfl)
theorem dX11_drop_22 : decode cX11_drop 22 = .ok (.iload_n 1, 1) := dk_27 (dk_at dksX11_drop_0 22 rfl rfl)
theorem dX11_drop_23 : decode cX11_drop 23 = .ok (.invokevirtual 143, 3) := dk_182 0 143 (dk_at dksX11_drop_1 0 rfl rfl)
theorem dX11_drop_26 : decode cX11_drop 26 = .ok (.iconst (-1), 1) := dk_2 (dk_at dksX11_drop_1 3 rfl rfl)
theorem dX11_drop_27 : decode cX11_drop 27 = .ok (.if_icmp .eq 14, 3) := dk_159 0 14 (dk_at dksX11_drop_1 4 rfl rfl)
theorem dX11_drop_30 : decode cX11_drop 30 = .ok (.aload_n 0, 1) := dk_42 (dk_at dksX11_drop_1 7 rfl rfl)
theorem dX11_drop_31 : decode cX11_drop 31 = .ok (.iconst 0, 1) := dk_3 (dk_at dksX11_drop_1 8 rfl rfl)
theorem dX11_drop_32 : decode cX11_drop 32 = .ok (.iload_n 1, 1) := dk_27 (dk_at dksX11_drop_1 9 rfl rfl)
theorem dX11_drop_33 : decode cX11_drop 33 = .ok (.lload_n 2, 1) := dk_32 (dk_at dksX11_drop_1 10 rfl rfl)
theorem dX11_drop_34 : decode cX11_drop 34 = .ok (.invokevirtual 172, 3) := dk_182 0 172 (dk_at dksX11_drop_1 11 rfl rfl)
theorem dX11_drop_37 : decode cX11_drop 37 = .ok (.iconst (-1), 1) := dk_2 (dk_at dksX11_drop_1 14 rfl rfl)
theorem dX11_drop_38 : decode cX11_drop 38 = .ok (.if_icmp .ne 6, 3) := dk_160 0 6 (dk_at dksX11_drop_1 15 rfl rfl)
theorem dX11_drop_41 : decode cX11_drop 41 = .ok (.bipush (-4), 2) := dk_16 252 (dk_at dksX11_drop_1 18 rfl rfl)
theorem dX11_drop_43 : decode cX11_drop 43 = .ok (.ireturn, 1) := dk_172 (dk_at dksX11_drop_1 20 rfl rfl)
theorem dX11_drop_44 : decode cX11_drop 44 = .ok (.aload_n 0, 1) := dk_42 (dk_at dksX11_drop_1 21 rfl rfl)
theorem dX11_drop_45 : decode cX11_drop 45 = .ok (.bipush 11, 2) := dk_16 11 (dk_at dksX11_drop_1 22 rfl rfl)
theorem dX11_drop_47 : decode cX11_drop 47 = .ok (.iload_n 1, 1) := dk_27 (dk_at dksX11_drop_2 0 rfl rfl)
theorem dX11_drop_48 : decode cX11_drop 48 = .ok (.iconst 0, 1) := dk_3 (dk_at dksX11_drop_2 1 rfl rfl)
theorem dX11_drop_49 : decode cX11_drop 49 = .ok (.invokevirtual 223, 3) := dk_182 0 223 (dk_at dksX11_drop_2 2 rfl rfl)
theorem dX11_drop_52 : decode cX11_drop 52 = .ok (.istore 4, 2) := dk_54 4 (dk_at dksX11_drop_2 5 rfl rfl)
theorem dX11_drop_54 : decode cX11_drop 54 = .ok (.aload_n 0, 1) := dk_42 (dk_at dksX11_drop_2 7 rfl rfl)
theorem dX11_drop_55 : decode cX11_drop 55 = .ok (.getfield 96, 3) := dk_180 0 96 (dk_at dksX11_drop_2 8 rfl rfl)
theorem dX11_drop_58 : decode cX11_drop 58 = .ok (.iload 4, 2) := dk_21 4 (dk_at dksX11_drop_2 11 rfl rfl)
theorem dX11_drop_60 : decode cX11_drop 60 = .ok (.lload_n 2, 1) := dk_32 (dk_at dksX11_drop_2 13 rfl rfl)
theorem dX11_drop_61 : decode cX11_drop 61 = .ok (.lastore, 1) := dk_80 (dk_at dksX11_drop_2 14 rfl rfl)
theorem dX11_drop_62 : decode cX11_drop 62 = .ok (.aload_n 0, 1) := dk_42 (dk_at dksX11_drop_2 15 rfl rfl)
theorem dX11_drop_63 : decode cX11_drop 63 = .ok (.bipush 96, 2) := dk_16 96 (dk_at dksX11_drop_2 16 rfl rfl)
theorem dX11_drop_65 : decode cX11_drop 65 = .ok (.invokevirtual 226, 3) := dk_182 0 226 (dk_at dksX11_drop_2 18 rfl rfl)
theorem dX11_drop_68 : decode cX11_drop 68 = .ok (.aload_n 0, 1) := dk_42 (dk_at dksX11_drop_2 21 rfl rfl)
theorem dX11_drop_69 : decode cX11_drop 69 = .ok (.iload_n 1, 1) := dk_27 (dk_at dksX11_drop_2 22 rfl rfl)
theorem dX11_drop_70 : decode cX11_drop 70 = .ok (.invokevirtual 285, 3) := dk_182 1 29 (dk_at dksX11_drop_3 0 rfl rfl)
theorem dX11_drop_73 : decode cX11_drop 73 = .ok (.ireturn, 1) := dk_172 (dk_at dksX11_drop_3 3 rfl rfl)
abbrev cX11_attribute : ByteArray := prog_12_method_61_code
def yX11_attribute : MethodName := ⟨RX11, "attribute", "(IJ)J"⟩
def dkwX11_attribute_1 : List UInt8 := [160, 0, 7, 9, 167, 0, 10, 42, 180, 0, 54, 21, 4, 47, 173]
abbrev dktX11_attribute_1 : List UInt8 := dkwX11_attribute_1 ++ []
def dkwX11_attribute_0 : List UInt8 := [42, 180, 0, 7, 153, 0, 13, 42, 3, 27, 32, 182, 0, 172, 167, 0, 4, 2, 54, 4, 21, 4, 2]
abbrev dktX11_attribute_0 : List UInt8 := dkwX11_attribute_0 ++ dktX11_attribute_1
theorem dksX11_attribute_0 : cX11_attribute.data.toList.drop 0 = dktX11_attribute_0 := by decide +kernel
theorem dksX11_attribute_1 : cX11_attribute.data.toList.drop 23 = dktX11_attribute_1 := dk_seg dksX11_attribute_0 23 rfl rfl
theorem dX11_attribute_0 : decode cX11_attribute 0 = .ok (.aload_n 0, 1) := dk_42 (dk_at dksX11_attribute_0 0 rfl rfl)
theorem dX11_attribute_1 : decode cX11_attribute 1 = .ok (.getfield 7, 3) := dk_180 0 7 (dk_at dksX11_attribute_0 1 rfl rfl)
theorem dX11_attribute_4 : decode cX11_attribute 4 = .ok (.ifCond .eq 13, 3) := dk_153 0 13 (dk_at dksX11_attribute_0 4 rfl rfl)
theorem dX11_attribute_7 : decode cX11_attribute 7 = .ok (.aload_n 0, 1) := dk_42 (dk_at dksX11_attribute_0 7 rfl rfl)
theorem dX11_attribute_8 : decode cX11_attribute 8 = .ok (.iconst 0, 1) := dk_3 (dk_at dksX11_attribute_0 8 rfl rfl)
theorem dX11_attribute_9 : decode cX11_attribute 9 = .ok (.iload_n 1, 1) := dk_27 (dk_at dksX11_attribute_0 9 rfl rfl)
theorem dX11_attribute_10 : decode cX11_attribute 10 = .ok (.lload_n 2, 1) := dk_32 (dk_at dksX11_attribute_0 10 rfl rfl)
theorem dX11_attribute_11 : decode cX11_attribute 11 = .ok (.invokevirtual 172, 3) := dk_182 0 172 (dk_at dksX11_attribute_0 11 rfl rfl)
theorem dX11_attribute_14 : decode cX11_attribute 14 = .ok (.goto 4, 3) := dk_167 0 4 (dk_at dksX11_attribute_0 14 rfl rfl)
theorem dX11_attribute_17 : decode cX11_attribute 17 = .ok (.iconst (-1), 1) := dk_2 (dk_at dksX11_attribute_0 17 rfl rfl)
theorem dX11_attribute_18 : decode cX11_attribute 18 = .ok (.istore 4, 2) := dk_54 4 (dk_at dksX11_attribute_0 18 rfl rfl)
theorem dX11_attribute_20 : decode cX11_attribute 20 = .ok (.iload 4, 2) := dk_21 4 (dk_at dksX11_attribute_0 20 rfl rfl)
theorem dX11_attribute_22 : decode cX11_attribute 22 = .ok (.iconst (-1), 1) := dk_2 (dk_at dksX11_attribute_0 22 rfl rfl)
theorem dX11_attribute_23 : decode cX11_attribute 23 = .ok (.if_icmp .ne 7, 3) := dk_160 0 7 (dk_at dksX11_attribute_1 0 rfl rfl)
theorem dX11_attribute_26 : decode cX11_attribute 26 = .ok (.lconst 0, 1) := dk_9 (dk_at dksX11_attribute_1 3 rfl rfl)
theorem dX11_attribute_27 : decode cX11_attribute 27 = .ok (.goto 10, 3) := dk_167 0 10 (dk_at dksX11_attribute_1 4 rfl rfl)
theorem dX11_attribute_30 : decode cX11_attribute 30 = .ok (.aload_n 0, 1) := dk_42 (dk_at dksX11_attribute_1 7 rfl rfl)
theorem dX11_attribute_31 : decode cX11_attribute 31 = .ok (.getfield 54, 3) := dk_180 0 54 (dk_at dksX11_attribute_1 8 rfl rfl)
theorem dX11_attribute_34 : decode cX11_attribute 34 = .ok (.iload 4, 2) := dk_21 4 (dk_at dksX11_attribute_1 11 rfl rfl)
theorem dX11_attribute_36 : decode cX11_attribute 36 = .ok (.laload, 1) := dk_47 (dk_at dksX11_attribute_1 13 rfl rfl)
theorem dX11_attribute_37 : decode cX11_attribute 37 = .ok (.lreturn, 1) := dk_173 (dk_at dksX11_attribute_1 14 rfl rfl)
abbrev cX11_attributes : ByteArray := prog_12_method_62_code
def yX11_attributes : MethodName := ⟨RX11, "attributes", "(I)I"⟩
def dkwX11_attributes_1 : List UInt8 := [167, 0, 8, 42, 27, 182, 1, 29, 172]
abbrev dktX11_attributes_1 : List UInt8 := dkwX11_attributes_1 ++ []
def dkwX11_attributes_0 : List UInt8 := [42, 180, 0, 7, 154, 0, 8, 16, 254, 167, 0, 23, 42, 3, 27, 182, 0, 143, 2, 160, 0, 8, 16, 252]
abbrev dktX11_attributes_0 : List UInt8 := dkwX11_attributes_0 ++ dktX11_attributes_1
theorem dksX11_attributes_0 : cX11_attributes.data.toList.drop 0 = dktX11_attributes_0 := by decide +kernel
theorem dksX11_attributes_1 : cX11_attributes.data.toList.drop 24 = dktX11_attributes_1 := dk_seg dksX11_attributes_0 24 rfl rfl
theorem dX11_attributes_0 : decode cX11_attributes 0 = .ok (.aload_n 0, 1) := dk_42 (dk_at dksX11_attributes_0 0 rfl rfl)
theorem dX11_attributes_1 : decode cX11_attributes 1 = .ok (.getfield 7, 3) := dk_180 0 7 (dk_at dksX11_attributes_0 1 rfl rfl)
theorem dX11_attributes_4 : decode cX11_attributes 4 = .ok (.ifCond .ne 8, 3) := dk_154 0 8 (dk_at dksX11_attributes_0 4 rfl rfl)
theorem dX11_attributes_7 : decode cX11_attributes 7 = .ok (.bipush (-2), 2) := dk_16 254 (dk_at dksX11_attributes_0 7 rfl rfl)
theorem dX11_attributes_9 : decode cX11_attributes 9 = .ok (.goto 23, 3) := dk_167 0 23 (dk_at dksX11_attributes_0 9 rfl rfl)
theorem dX11_attributes_12 : decode cX11_attributes 12 = .ok (.aload_n 0, 1) := dk_42 (dk_at dksX11_attributes_0 12 rfl rfl)
theorem dX11_attributes_13 : decode cX11_attributes 13 = .ok (.iconst 0, 1) := dk_3 (dk_at dksX11_attributes_0 13 rfl rfl)
theorem dX11_attributes_14 : decode cX11_attributes 14 = .ok (.iload_n 1, 1) := dk_27 (dk_at dksX11_attributes_0 14 rfl rfl)
theorem dX11_attributes_15 : decode cX11_attributes 15 = .ok (.invokevirtual 143, 3) := dk_182 0 143 (dk_at dksX11_attributes_0 15 rfl rfl)
theorem dX11_attributes_18 : decode cX11_attributes 18 = .ok (.iconst (-1), 1) := dk_2 (dk_at dksX11_attributes_0 18 rfl rfl)
theorem dX11_attributes_19 : decode cX11_attributes 19 = .ok (.if_icmp .ne 8, 3) := dk_160 0 8 (dk_at dksX11_attributes_0 19 rfl rfl)
theorem dX11_attributes_22 : decode cX11_attributes 22 = .ok (.bipush (-4), 2) := dk_16 252 (dk_at dksX11_attributes_0 22 rfl rfl)
theorem dX11_attributes_24 : decode cX11_attributes 24 = .ok (.goto 8, 3) := dk_167 0 8 (dk_at dksX11_attributes_1 0 rfl rfl)
theorem dX11_attributes_27 : decode cX11_attributes 27 = .ok (.aload_n 0, 1) := dk_42 (dk_at dksX11_attributes_1 3 rfl rfl)
theorem dX11_attributes_28 : decode cX11_attributes 28 = .ok (.iload_n 1, 1) := dk_27 (dk_at dksX11_attributes_1 4 rfl rfl)
theorem dX11_attributes_29 : decode cX11_attributes 29 = .ok (.invokevirtual 285, 3) := dk_182 1 29 (dk_at dksX11_attributes_1 5 rfl rfl)
theorem dX11_attributes_32 : decode cX11_attributes 32 = .ok (.ireturn, 1) := dk_172 (dk_at dksX11_attributes_1 8 rfl rfl)
abbrev cX11_key : ByteArray := prog_12_method_63_code
def yX11_key : MethodName := ⟨RX11, "key", "(II)J"⟩
def dkwX11_key_5 : List UInt8 := [160, 0, 13, 42, 180, 0, 51, 21, 5, 47, 167, 0, 4, 33, 66, 132, 5, 1, 167, 255, 138, 33, 173]
abbrev dktX11_key_5 : List UInt8 := dkwX11_key_5 ++ []
def dkwX11_key_4 : List UInt8 := [96, 54, 6, 132, 7, 1, 167, 255, 190, 42, 180, 0, 48, 21, 5, 46, 27, 160, 0, 19, 21, 6, 28]
abbrev dktX11_key_4 : List UInt8 := dkwX11_key_4 ++ dktX11_key_5
def dkwX11_key_3 : List UInt8 := [180, 0, 51, 21, 7, 47, 42, 180, 0, 51, 21, 5, 47, 184, 0, 247, 153, 0, 7, 4, 167, 0, 4, 3]
abbrev dktX11_key_3 : List UInt8 := dkwX11_key_3 ++ dktX11_key_4
def dkwX11_key_2 : List UInt8 := [180, 0, 48, 21, 5, 46, 27, 160, 0, 50, 21, 6, 42, 180, 0, 48, 21, 7, 46, 27, 160, 0, 27, 42]
abbrev dktX11_key_2 : List UInt8 := dkwX11_key_2 ++ dktX11_key_3
def dkwX11_key_1 : List UInt8 := [3, 46, 162, 0, 113, 3, 54, 6, 3, 54, 7, 21, 7, 42, 180, 0, 45, 3, 46, 162, 0, 61, 42]
abbrev dktX11_key_1 : List UInt8 := dkwX11_key_1 ++ dktX11_key_2
def dkwX11_key_0 : List UInt8 := [42, 180, 0, 7, 153, 0, 7, 28, 156, 0, 5, 9, 173, 9, 66, 3, 54, 5, 21, 5, 42, 180, 0, 45]
abbrev dktX11_key_0 : List UInt8 := dkwX11_key_0 ++ dktX11_key_1
theorem dksX11_key_0 : cX11_key.data.toList.drop 0 = dktX11_key_0 := by decide +kernel
theorem dksX11_key_1 : cX11_key.data.toList.drop 24 = dktX11_key_1 := dk_seg dksX11_key_0 24 rfl rfl
theorem dksX11_key_2 : cX11_key.data.toList.drop 47 = dktX11_key_2 := dk_seg dksX11_key_1 23 rfl rfl
theorem dksX11_key_3 : cX11_key.data.toList.drop 71 = dktX11_key_3 := dk_seg dksX11_key_2 24 rfl rfl
theorem dksX11_key_4 : cX11_key.data.toList.drop 95 = dktX11_key_4 := dk_seg dksX11_key_3 24 rfl rfl
theorem dksX11_key_5 : cX11_key.data.toList.drop 118 = dktX11_key_5 := dk_seg dksX11_key_4 23 rfl rfl
theorem dX11_key_0 : decode cX11_key 0 = .ok (.aload_n 0, 1) := dk_42 (dk_at dksX11_key_0 0 rfl rfl)
theorem dX11_key_1 : decode cX11_key 1 = .ok (.getfield 7, 3) := dk_180 0 7 (dk_at dksX11_key_0 1 rfl rfl)
theorem dX11_key_4 : decode cX11_key 4 = .ok (.ifCond .eq 7, 3) := dk_153 0 7 (dk_at dksX11_key_0 4 rfl rfl)
theorem dX11_key_7 : decode cX11_key 7 = .ok (.iload_n 2, 1) := dk_28 (dk_at dksX11_key_0 7 rfl rfl)
theorem dX11_key_8 : decode cX11_key 8 = .ok (.ifCond .ge 5, 3) := dk_156 0 5 (dk_at dksX11_key_0 8 rfl rfl)
theorem dX11_key_11 : decode cX11_key 11 = .ok (.lconst 0, 1) := dk_9 (dk_at dksX11_key_0 11 rfl rfl)
theorem dX11_key_12 : decode cX11_key 12 = .ok (.lreturn, 1) := dk_173 (dk_at dksX11_key_0 12 rfl rfl)
theorem dX11_key_13 : decode cX11_key 13 = .ok (.lconst 0, 1) := dk_9 (dk_at dksX11_key_0 13 rfl rfl)
theorem dX11_key_14 : decode cX11_key 14 = .ok (.lstore_n 3, 1) := dk_66 (dk_at dksX11_key_0 14 rfl rfl)
theorem dX11_key_15 : decode cX11_key 15 = .ok (.iconst 0, 1) := dk_3 (dk_at dksX11_key_0 15 rfl rfl)
theorem dX11_key_16 : decode cX11_key 16 = .ok (.istore 5, 2) := dk_54 5 (dk_at dksX11_key_0 16 rfl rfl)
theorem dX11_key_18 : decode cX11_key 18 = .ok (.iload 5, 2) := dk_21 5 (dk_at dksX11_key_0 18 rfl rfl)
theorem dX11_key_20 : decode cX11_key 20 = .ok (.aload_n 0, 1) := dk_42 (dk_at dksX11_key_0 20 rfl rfl)
theorem dX11_key_21 : decode cX11_key 21 = .ok (.getfield 45, 3) := dk_180 0 45 (dk_at dksX11_key_0 21 rfl rfl)
theorem dX11_key_24 : decode cX11_key 24 = .ok (.iconst 0, 1) := dk_3 (dk_at dksX11_key_1 0 rfl rfl)
theorem dX11_key_25 : decode cX11_key 25 = .ok (.iaload, 1) := dk_46 (dk_at dksX11_key_1 1 rfl rfl)
theorem dX11_key_26 : decode cX11_key 26 = .ok (.if_icmp .ge 113, 3) := dk_162 0 113 (dk_at dksX11_key_1 2 rfl rfl)
theorem dX11_key_29 : decode cX11_key 29 = .ok (.iconst 0, 1) := dk_3 (dk_at dksX11_key_1 5 rfl rfl)
theorem dX11_key_30 : decode cX11_key 30 = .ok (.istore 6, 2) := dk_54 6 (dk_at dksX11_key_1 6 rfl rfl)
theorem dX11_key_32 : decode cX11_key 32 = .ok (.iconst 0, 1) := dk_3 (dk_at dksX11_key_1 8 rfl rfl)
theorem dX11_key_33 : decode cX11_key 33 = .ok (.istore 7, 2) := dk_54 7 (dk_at dksX11_key_1 9 rfl rfl)
theorem dX11_key_35 : decode cX11_key 35 = .ok (.iload 7, 2) := dk_21 7 (dk_at dksX11_key_1 11 rfl rfl)
theorem dX11_key_37 : decode cX11_key 37 = .ok (.aload_n 0, 1) := dk_42 (dk_at dksX11_key_1 13 rfl rfl)
theorem dX11_key_38 : decode cX11_key 38 = .ok (.getfield 45, 3) := dk_180 0 45 (dk_at dksX11_key_1 14 rfl rfl)
theorem dX11_key_41 : decode cX11_key 41 = .ok (.iconst 0, 1) := dk_3 (dk_at dksX11_key_1 17 rfl rfl)
theorem dX11_key_42 : decode cX11_key 42 = .ok (.iaload, 1) := dk_46 (dk_at dksX11_key_1 18 rfl rfl)
theorem dX11_key_43 : decode cX11_key 43 = .ok (.if_icmp .ge 61, 3) := dk_162 0 61 (dk_at dksX11_key_1 19 rfl rfl)
theorem dX11_key_46 : decode cX11_key 46 = .ok (.aload_n 0, 1) := dk_42 (dk_at dksX11_key_1 22 rfl rfl)
theorem dX11_key_47 : decode cX11_key 47 = .ok (.getfield 48, 3) := dk_180 0 48 (dk_at dksX11_key_2 0 rfl rfl)
theorem dX11_key_50 : decode cX11_key 50 = .ok (.iload 5, 2) := dk_21 5 (dk_at dksX11_key_2 3 rfl rfl)
theorem dX11_key_52 : decode cX11_key 52 = .ok (.iaload, 1) := dk_46 (dk_at dksX11_key_2 5 rfl rfl)
theorem dX11_key_53 : decode cX11_key 53 = .ok (.iload_n 1, 1) := dk_27 (dk_at dksX11_key_2 6 rfl rfl)
theorem dX11_key_54 : decode cX11_key 54 = .ok (.if_icmp .ne 50, 3) := dk_160 0 50 (dk_at dksX11_key_2 7 rfl rfl)
theorem dX11_key_57 : decode cX11_key 57 = .ok (.iload 6, 2) := dk_21 6 (dk_at dksX11_key_2 10 rfl rfl)
theorem dX11_key_59 : decode cX11_key 59 = .ok (.aload_n 0, 1) := dk_42 (dk_at dksX11_key_2 12 rfl rfl)
theorem dX11_key_60 : decode cX11_key 60 = .ok (.getfield 48, 3) := dk_180 0 48 (dk_at dksX11_key_2 13 rfl rfl)
theorem dX11_key_63 : decode cX11_key 63 = .ok (.iload 7, 2) := dk_21 7 (dk_at dksX11_key_2 16 rfl rfl)
theorem dX11_key_65 : decode cX11_key 65 = .ok (.iaload, 1) := dk_46 (dk_at dksX11_key_2 18 rfl rfl)
theorem dX11_key_66 : decode cX11_key 66 = .ok (.iload_n 1, 1) := dk_27 (dk_at dksX11_key_2 19 rfl rfl)
theorem dX11_key_67 : decode cX11_key 67 = .ok (.if_icmp .ne 27, 3) := dk_160 0 27 (dk_at dksX11_key_2 20 rfl rfl)
theorem dX11_key_70 : decode cX11_key 70 = .ok (.aload_n 0, 1) := dk_42 (dk_at dksX11_key_2 23 rfl rfl)
theorem dX11_key_71 : decode cX11_key 71 = .ok (.getfield 51, 3) := dk_180 0 51 (dk_at dksX11_key_3 0 rfl rfl)
theorem dX11_key_74 : decode cX11_key 74 = .ok (.iload 7, 2) := dk_21 7 (dk_at dksX11_key_3 3 rfl rfl)
theorem dX11_key_76 : decode cX11_key 76 = .ok (.laload, 1) := dk_47 (dk_at dksX11_key_3 5 rfl rfl)
theorem dX11_key_77 : decode cX11_key 77 = .ok (.aload_n 0, 1) := dk_42 (dk_at dksX11_key_3 6 rfl rfl)
theorem dX11_key_78 : decode cX11_key 78 = .ok (.getfield 51, 3) := dk_180 0 51 (dk_at dksX11_key_3 7 rfl rfl)
theorem dX11_key_81 : decode cX11_key 81 = .ok (.iload 5, 2) := dk_21 5 (dk_at dksX11_key_3 10 rfl rfl)
theorem dX11_key_83 : decode cX11_key 83 = .ok (.laload, 1) := dk_47 (dk_at dksX11_key_3 12 rfl rfl)
theorem dX11_key_84 : decode cX11_key 84 = .ok (.invokestatic 247, 3) := dk_184 0 247 (dk_at dksX11_key_3 13 rfl rfl)
theorem dX11_key_87 : decode cX11_key 87 = .ok (.ifCond .eq 7, 3) := dk_153 0 7 (dk_at dksX11_key_3 16 rfl rfl)
theorem dX11_key_90 : decode cX11_key 90 = .ok (.iconst 1, 1) := dk_4 (dk_at dksX11_key_3 19 rfl rfl)
theorem dX11_key_91 : decode cX11_key 91 = .ok (.goto 4, 3) := dk_167 0 4 (dk_at dksX11_key_3 20 rfl rfl)
theorem dX11_key_94 : decode cX11_key 94 = .ok (.iconst 0, 1) := dk_3 (dk_at dksX11_key_3 23 rfl rfl)
theorem dX11_key_95 : decode cX11_key 95 = .ok (.iadd, 1) := dk_96 (dk_at dksX11_key_4 0 rfl rfl)
theorem dX11_key_96 : decode cX11_key 96 = .ok (.istore 6, 2) := dk_54 6 (dk_at dksX11_key_4 1 rfl rfl)
theorem dX11_key_98 : decode cX11_key 98 = .ok (.iinc 7 1, 3) := dk_132 7 1 (dk_at dksX11_key_4 3 rfl rfl)
theorem dX11_key_101 : decode cX11_key 101 = .ok (.goto (-66), 3) := dk_167 255 190 (dk_at dksX11_key_4 6 rfl rfl)
theorem dX11_key_104 : decode cX11_key 104 = .ok (.aload_n 0, 1) := dk_42 (dk_at dksX11_key_4 9 rfl rfl)
theorem dX11_key_105 : decode cX11_key 105 = .ok (.getfield 48, 3) := dk_180 0 48 (dk_at dksX11_key_4 10 rfl rfl)
theorem dX11_key_108 : decode cX11_key 108 = .ok (.iload 5, 2) := dk_21 5 (dk_at dksX11_key_4 13 rfl rfl)
theorem dX11_key_110 : decode cX11_key 110 = .ok (.iaload, 1) := dk_46 (dk_at dksX11_key_4 15 rfl rfl)
theorem dX11_key_111 : decode cX11_key 111 = .ok (.iload_n 1, 1) := dk_27 (dk_at dksX11_key_4 16 rfl rfl)
theorem dX11_key_112 : decode cX11_key 112 = .ok (.if_icmp .ne 19, 3) := dk_160 0 19 (dk_at dksX11_key_4 17 rfl rfl)
theorem dX11_key_115 : decode cX11_key 115 = .ok (.iload 6, 2) := dk_21 6 (dk_at dksX11_key_4 20 rfl rfl)
theorem dX11_key_117 : decode cX11_key 117 = .ok (.iload_n 2, 1) := dk_28 (dk_at dksX11_key_4 22 rfl rfl)
theorem dX11_key_118 : decode cX11_key 118 = .ok (.if_icmp .ne 13, 3) := dk_160 0 13 (dk_at dksX11_key_5 0 rfl rfl)
theorem dX11_key_121 : decode cX11_key 121 = .ok (.aload_n 0, 1) := dk_42 (dk_at dksX11_key_5 3 rfl rfl)
theorem dX11_key_122 : decode cX11_key 122 = .ok (.getfield 51, 3) := dk_180 0 51 (dk_at dksX11_key_5 4 rfl rfl)
theorem dX11_key_125 : decode cX11_key 125 = .ok (.iload 5, 2) := dk_21 5 (dk_at dksX11_key_5 7 rfl rfl)
theorem dX11_key_127 : decode cX11_key 127 = .ok (.laload, 1) := dk_47 (dk_at dksX11_key_5 9 rfl rfl)
theorem dX11_key_128 : decode cX11_key 128 = .ok (.goto 4, 3) := dk_167 0 4 (dk_at dksX11_key_5 10 rfl rfl)
theorem dX11_key_131 : decode cX11_key 131 = .ok (.lload_n 3, 1) := dk_33 (dk_at dksX11_key_5 13 rfl rfl)
theorem dX11_key_132 : decode cX11_key 132 = .ok (.lstore_n 3, 1) := dk_66 (dk_at dksX11_key_5 14 rfl rfl)
theorem dX11_key_133 : decode cX11_key 133 = .ok (.iinc 5 1, 3) := dk_132 5 1 (dk_at dksX11_key_5 15 rfl rfl)
theorem dX11_key_136 : decode cX11_key 136 = .ok (.goto (-118), 3) := dk_167 255 138 (dk_at dksX11_key_5 18 rfl rfl)
theorem dX11_key_139 : decode cX11_key 139 = .ok (.lload_n 3, 1) := dk_33 (dk_at dksX11_key_5 21 rfl rfl)
theorem dX11_key_140 : decode cX11_key 140 = .ok (.lreturn, 1) := dk_173 (dk_at dksX11_key_5 22 rfl rfl)
abbrev cX11_open : ByteArray := prog_12_method_64_code
def yX11_open : MethodName := ⟨RX11, "open", "(I)I"⟩
def dkwX11_open_5 : List UInt8 := [180, 0, 13, 29, 27, 79, 29, 172]
abbrev dktX11_open_5 : List UInt8 := dkwX11_open_5 ++ []
def dkwX11_open_4 : List UInt8 := [21, 4, 167, 0, 4, 29, 62, 132, 4, 255, 167, 255, 231, 29, 2, 160, 0, 6, 16, 246, 172, 42]
abbrev dktX11_open_4 : List UInt8 := dkwX11_open_4 ++ dktX11_open_5
def dkwX11_open_3 : List UInt8 := [16, 245, 172, 2, 62, 16, 7, 54, 4, 21, 4, 155, 0, 26, 42, 180, 0, 13, 21, 4, 46, 154, 0, 8]
abbrev dktX11_open_3 : List UInt8 := dkwX11_open_3 ++ dktX11_open_4
def dkwX11_open_2 : List UInt8 := [180, 0, 26, 28, 46, 5, 159, 0, 21, 42, 180, 0, 26, 28, 46, 4, 160, 0, 8, 16, 249, 167, 0, 5]
abbrev dktX11_open_2 : List UInt8 := dkwX11_open_2 ++ dktX11_open_3
def dkwX11_open_1 : List UInt8 := [180, 0, 26, 28, 46, 4, 159, 0, 15, 42, 3, 27, 182, 0, 233, 154, 0, 6, 16, 252, 172, 42]
abbrev dktX11_open_1 : List UInt8 := dkwX11_open_1 ++ dktX11_open_2
def dkwX11_open_0 : List UInt8 := [42, 180, 0, 7, 154, 0, 6, 16, 254, 172, 42, 3, 27, 182, 0, 143, 61, 28, 2, 159, 0, 22, 42]
abbrev dktX11_open_0 : List UInt8 := dkwX11_open_0 ++ dktX11_open_1
theorem dksX11_open_0 : cX11_open.data.toList.drop 0 = dktX11_open_0 := by decide +kernel
theorem dksX11_open_1 : cX11_open.data.toList.drop 23 = dktX11_open_1 := dk_seg dksX11_open_0 23 rfl rfl
theorem dksX11_open_2 : cX11_open.data.toList.drop 45 = dktX11_open_2 := dk_seg dksX11_open_1 22 rfl rfl
theorem dksX11_open_3 : cX11_open.data.toList.drop 69 = dktX11_open_3 := dk_seg dksX11_open_2 24 rfl rfl
theorem dksX11_open_4 : cX11_open.data.toList.drop 93 = dktX11_open_4 := dk_seg dksX11_open_3 24 rfl rfl
theorem dksX11_open_5 : cX11_open.data.toList.drop 115 = dktX11_open_5 := dk_seg dksX11_open_4 22 rfl rfl
theorem dX11_open_0 : decode cX11_open 0 = .ok (.aload_n 0, 1) := dk_42 (dk_at dksX11_open_0 0 rfl rfl)
theorem dX11_open_1 : decode cX11_open 1 = .ok (.getfield 7, 3) := dk_180 0 7 (dk_at dksX11_open_0 1 rfl rfl)
theorem dX11_open_4 : decode cX11_open 4 = .ok (.ifCond .ne 6, 3) := dk_154 0 6 (dk_at dksX11_open_0 4 rfl rfl)
theorem dX11_open_7 : decode cX11_open 7 = .ok (.bipush (-2), 2) := dk_16 254 (dk_at dksX11_open_0 7 rfl rfl)
theorem dX11_open_9 : decode cX11_open 9 = .ok (.ireturn, 1) := dk_172 (dk_at dksX11_open_0 9 rfl rfl)
theorem dX11_open_10 : decode cX11_open 10 = .ok (.aload_n 0, 1) := dk_42 (dk_at dksX11_open_0 10 rfl rfl)
theorem dX11_open_11 : decode cX11_open 11 = .ok (.iconst 0, 1) := dk_3 (dk_at dksX11_open_0 11 rfl rfl)
theorem dX11_open_12 : decode cX11_open 12 = .ok (.iload_n 1, 1) := dk_27 (dk_at dksX11_open_0 12 rfl rfl)
theorem dX11_open_13 : decode cX11_open 13 = .ok (.invokevirtual 143, 3) := dk_182 0 143 (dk_at dksX11_open_0 13 rfl rfl)
theorem dX11_open_16 : decode cX11_open 16 = .ok (.istore_n 2, 1) := dk_61 (dk_at dksX11_open_0 16 rfl rfl)
theorem dX11_open_17 : decode cX11_open 17 = .ok (.iload_n 2, 1) := dk_28 (dk_at dksX11_open_0 17 rfl rfl)
theorem dX11_open_18 : decode cX11_open 18 = .ok (.iconst (-1), 1) := dk_2 (dk_at dksX11_open_0 18 rfl rfl)
theorem dX11_open_19 : decode cX11_open 19 = .ok (.if_icmp .eq 22, 3) := dk_159 0 22 (dk_at dksX11_open_0 19 rfl rfl)
theorem dX11_open_22 : decode cX11_open 22 = .ok (.aload_n 0, 1) := dk_42 (dk_at dksX11_open_0 22 rfl rfl)
theorem dX11_open_23 : decode cX11_open 23 = .ok (.getfield 26, 3) := dk_180 0 26 (dk_at dksX11_open_1 0 rfl rfl)
theorem dX11_open_26 : decode cX11_open 26 = .ok (.iload_n 2, 1) := dk_28 (dk_at dksX11_open_1 3 rfl rfl)
theorem dX11_open_27 : decode cX11_open 27 = .ok (.iaload, 1) := dk_46 (dk_at dksX11_open_1 4 rfl rfl)
theorem dX11_open_28 : decode cX11_open 28 = .ok (.iconst 1, 1) := dk_4 (dk_at dksX11_open_1 5 rfl rfl)
theorem dX11_open_29 : decode cX11_open 29 = .ok (.if_icmp .eq 15, 3) := dk_159 0 15 (dk_at dksX11_open_1 6 rfl rfl)
theorem dX11_open_32 : decode cX11_open 32 = .ok (.aload_n 0, 1) := dk_42 (dk_at dksX11_open_1 9 rfl rfl)
theorem dX11_open_33 : decode cX11_open 33 = .ok (.iconst 0, 1) := dk_3 (dk_at dksX11_open_1 10 rfl rfl)
theorem dX11_open_34 : decode cX11_open 34 = .ok (.iload_n 1, 1) := dk_27 (dk_at dksX11_open_1 11 rfl rfl)
theorem dX11_open_35 : decode cX11_open 35 = .ok (.invokevirtual 233, 3) := dk_182 0 233 (dk_at dksX11_open_1 12 rfl rfl)
theorem dX11_open_38 : decode cX11_open 38 = .ok (.ifCond .ne 6, 3) := dk_154 0 6 (dk_at dksX11_open_1 15 rfl rfl)
theorem dX11_open_41 : decode cX11_open 41 = .ok (.bipush (-4), 2) := dk_16 252 (dk_at dksX11_open_1 18 rfl rfl)
theorem dX11_open_43 : decode cX11_open 43 = .ok (.ireturn, 1) := dk_172 (dk_at dksX11_open_1 20 rfl rfl)
theorem dX11_open_44 : decode cX11_open 44 = .ok (.aload_n 0, 1) := dk_42 (dk_at dksX11_open_1 21 rfl rfl)
theorem dX11_open_45 : decode cX11_open 45 = .ok (.getfield 26, 3) := dk_180 0 26 (dk_at dksX11_open_2 0 rfl rfl)
theorem dX11_open_48 : decode cX11_open 48 = .ok (.iload_n 2, 1) := dk_28 (dk_at dksX11_open_2 3 rfl rfl)
theorem dX11_open_49 : decode cX11_open 49 = .ok (.iaload, 1) := dk_46 (dk_at dksX11_open_2 4 rfl rfl)
theorem dX11_open_50 : decode cX11_open 50 = .ok (.iconst 2, 1) := dk_5 (dk_at dksX11_open_2 5 rfl rfl)
theorem dX11_open_51 : decode cX11_open 51 = .ok (.if_icmp .eq 21, 3) := dk_159 0 21 (dk_at dksX11_open_2 6 rfl rfl)
theorem dX11_open_54 : decode cX11_open 54 = .ok (.aload_n 0, 1) := dk_42 (dk_at dksX11_open_2 9 rfl rfl)
theorem dX11_open_55 : decode cX11_open 55 = .ok (.getfield 26, 3) := dk_180 0 26 (dk_at dksX11_open_2 10 rfl rfl)
theorem dX11_open_58 : decode cX11_open 58 = .ok (.iload_n 2, 1) := dk_28 (dk_at dksX11_open_2 13 rfl rfl)
theorem dX11_open_59 : decode cX11_open 59 = .ok (.iaload, 1) := dk_46 (dk_at dksX11_open_2 14 rfl rfl)
theorem dX11_open_60 : decode cX11_open 60 = .ok (.iconst 1, 1) := dk_4 (dk_at dksX11_open_2 15 rfl rfl)
theorem dX11_open_61 : decode cX11_open 61 = .ok (.if_icmp .ne 8, 3) := dk_160 0 8 (dk_at dksX11_open_2 16 rfl rfl)
theorem dX11_open_64 : decode cX11_open 64 = .ok (.bipush (-7), 2) := dk_16 249 (dk_at dksX11_open_2 19 rfl rfl)
theorem dX11_open_66 : decode cX11_open 66 = .ok (.goto 5, 3) := dk_167 0 5 (dk_at dksX11_open_2 21 rfl rfl)
theorem dX11_open_69 : decode cX11_open 69 = .ok (.bipush (-11), 2) := dk_16 245 (dk_at dksX11_open_3 0 rfl rfl)
theorem dX11_open_71 : decode cX11_open 71 = .ok (.ireturn, 1) := dk_172 (dk_at dksX11_open_3 2 rfl rfl)
theorem dX11_open_72 : decode cX11_open 72 = .ok (.iconst (-1), 1) := dk_2 (dk_at dksX11_open_3 3 rfl rfl)
theorem dX11_open_73 : decode cX11_open 73 = .ok (.istore_n 3, 1) := dk_62 (dk_at dksX11_open_3 4 rfl rfl)
theorem dX11_open_74 : decode cX11_open 74 = .ok (.bipush 7, 2) := dk_16 7 (dk_at dksX11_open_3 5 rfl rfl)
theorem dX11_open_76 : decode cX11_open 76 = .ok (.istore 4, 2) := dk_54 4 (dk_at dksX11_open_3 7 rfl rfl)
theorem dX11_open_78 : decode cX11_open 78 = .ok (.iload 4, 2) := dk_21 4 (dk_at dksX11_open_3 9 rfl rfl)
theorem dX11_open_80 : decode cX11_open 80 = .ok (.ifCond .lt 26, 3) := dk_155 0 26 (dk_at dksX11_open_3 11 rfl rfl)
theorem dX11_open_83 : decode cX11_open 83 = .ok (.aload_n 0, 1) := dk_42 (dk_at dksX11_open_3 14 rfl rfl)
theorem dX11_open_84 : decode cX11_open 84 = .ok (.getfield 13, 3) := dk_180 0 13 (dk_at dksX11_open_3 15 rfl rfl)
theorem dX11_open_87 : decode cX11_open 87 = .ok (.iload 4, 2) := dk_21 4 (dk_at dksX11_open_3 18 rfl rfl)
theorem dX11_open_89 : decode cX11_open 89 = .ok (.iaload, 1) := dk_46 (dk_at dksX11_open_3 20 rfl rfl)
theorem dX11_open_90 : decode cX11_open 90 = .ok (.ifCond .ne 8, 3) := dk_154 0 8 (dk_at dksX11_open_3 21 rfl rfl)
theorem dX11_open_93 : decode cX11_open 93 = .ok (.iload 4, 2) := dk_21 4 (dk_at dksX11_open_4 0 rfl rfl)
theorem dX11_open_95 : decode cX11_open 95 = .ok (.goto 4, 3) := dk_167 0 4 (dk_at dksX11_open_4 2 rfl rfl)
theorem dX11_open_98 : decode cX11_open 98 = .ok (.iload_n 3, 1) := dk_29 (dk_at dksX11_open_4 5 rfl rfl)
theorem dX11_open_99 : decode cX11_open 99 = .ok (.istore_n 3, 1) := dk_62 (dk_at dksX11_open_4 6 rfl rfl)
theorem dX11_open_100 : decode cX11_open 100 = .ok (.iinc 4 (-1), 3) := dk_132 4 255 (dk_at dksX11_open_4 7 rfl rfl)
theorem dX11_open_103 : decode cX11_open 103 = .ok (.goto (-25), 3) := dk_167 255 231 (dk_at dksX11_open_4 10 rfl rfl)
theorem dX11_open_106 : decode cX11_open 106 = .ok (.iload_n 3, 1) := dk_29 (dk_at dksX11_open_4 13 rfl rfl)
theorem dX11_open_107 : decode cX11_open 107 = .ok (.iconst (-1), 1) := dk_2 (dk_at dksX11_open_4 14 rfl rfl)
theorem dX11_open_108 : decode cX11_open 108 = .ok (.if_icmp .ne 6, 3) := dk_160 0 6 (dk_at dksX11_open_4 15 rfl rfl)
theorem dX11_open_111 : decode cX11_open 111 = .ok (.bipush (-10), 2) := dk_16 246 (dk_at dksX11_open_4 18 rfl rfl)
theorem dX11_open_113 : decode cX11_open 113 = .ok (.ireturn, 1) := dk_172 (dk_at dksX11_open_4 20 rfl rfl)
theorem dX11_open_114 : decode cX11_open 114 = .ok (.aload_n 0, 1) := dk_42 (dk_at dksX11_open_4 21 rfl rfl)
theorem dX11_open_115 : decode cX11_open 115 = .ok (.getfield 13, 3) := dk_180 0 13 (dk_at dksX11_open_5 0 rfl rfl)
theorem dX11_open_118 : decode cX11_open 118 = .ok (.iload_n 3, 1) := dk_29 (dk_at dksX11_open_5 3 rfl rfl)
theorem dX11_open_119 : decode cX11_open 119 = .ok (.iload_n 1, 1) := dk_27 (dk_at dksX11_open_5 4 rfl rfl)
theorem dX11_open_120 : decode cX11_open 120 = .ok (.iastore, 1) := dk_79 (dk_at dksX11_open_5 5 rfl rfl)
theorem dX11_open_121 : decode cX11_open 121 = .ok (.iload_n 3, 1) := dk_29 (dk_at dksX11_open_5 6 rfl rfl)
theorem dX11_open_122 : decode cX11_open 122 = .ok (.ireturn, 1) := dk_172 (dk_at dksX11_open_5 7 rfl rfl)
abbrev cX11_close : ByteArray := prog_12_method_66_code
def yX11_close : MethodName := ⟨RX11, "close", "(I)I"⟩
def dkwX11_close_3 : List UInt8 := [172]
abbrev dktX11_close_3 : List UInt8 := dkwX11_close_3 ++ []
def dkwX11_close_2 : List UInt8 := [182, 0, 236, 153, 0, 5, 3, 172, 42, 16, 8, 28, 3, 182, 0, 223, 87, 42, 16, 48, 182, 0, 226, 4]
abbrev dktX11_close_2 : List UInt8 := dkwX11_close_2 ++ dktX11_close_3
def dkwX11_close_1 : List UInt8 := [180, 0, 13, 27, 46, 61, 42, 180, 0, 13, 27, 3, 79, 42, 3, 28, 182, 0, 233, 157, 0, 11, 42, 28]
abbrev dktX11_close_1 : List UInt8 := dkwX11_close_1 ++ dktX11_close_2
def dkwX11_close_0 : List UInt8 := [42, 180, 0, 7, 154, 0, 6, 16, 254, 172, 42, 27, 182, 1, 32, 154, 0, 6, 16, 253, 172, 42]
abbrev dktX11_close_0 : List UInt8 := dkwX11_close_0 ++ dktX11_close_1
theorem dksX11_close_0 : cX11_close.data.toList.drop 0 = dktX11_close_0 := by decide +kernel
theorem dksX11_close_1 : cX11_close.data.toList.drop 22 = dktX11_close_1 := dk_seg dksX11_close_0 22 rfl rfl
theorem dksX11_close_2 : cX11_close.data.toList.drop 46 = dktX11_close_2 := dk_seg dksX11_close_1 24 rfl rfl
theorem dksX11_close_3 : cX11_close.data.toList.drop 70 = dktX11_close_3 := dk_seg dksX11_close_2 24 rfl rfl
theorem dX11_close_0 : decode cX11_close 0 = .ok (.aload_n 0, 1) := dk_42 (dk_at dksX11_close_0 0 rfl rfl)
theorem dX11_close_1 : decode cX11_close 1 = .ok (.getfield 7, 3) := dk_180 0 7 (dk_at dksX11_close_0 1 rfl rfl)
theorem dX11_close_4 : decode cX11_close 4 = .ok (.ifCond .ne 6, 3) := dk_154 0 6 (dk_at dksX11_close_0 4 rfl rfl)
theorem dX11_close_7 : decode cX11_close 7 = .ok (.bipush (-2), 2) := dk_16 254 (dk_at dksX11_close_0 7 rfl rfl)
theorem dX11_close_9 : decode cX11_close 9 = .ok (.ireturn, 1) := dk_172 (dk_at dksX11_close_0 9 rfl rfl)
theorem dX11_close_10 : decode cX11_close 10 = .ok (.aload_n 0, 1) := dk_42 (dk_at dksX11_close_0 10 rfl rfl)
theorem dX11_close_11 : decode cX11_close 11 = .ok (.iload_n 1, 1) := dk_27 (dk_at dksX11_close_0 11 rfl rfl)
theorem dX11_close_12 : decode cX11_close 12 = .ok (.invokevirtual 288, 3) := dk_182 1 32 (dk_at dksX11_close_0 12 rfl rfl)
theorem dX11_close_15 : decode cX11_close 15 = .ok (.ifCond .ne 6, 3) := dk_154 0 6 (dk_at dksX11_close_0 15 rfl rfl)
theorem dX11_close_18 : decode cX11_close 18 = .ok (.bipush (-3), 2) := dk_16 253 (dk_at dksX11_close_0 18 rfl rfl)
theorem dX11_close_20 : decode cX11_close 20 = .ok (.ireturn, 1) := dk_172 (dk_at dksX11_close_0 20 rfl rfl)
theorem dX11_close_21 : decode cX11_close 21 = .ok (.aload_n 0, 1) := dk_42 (dk_at dksX11_close_0 21 rfl rfl)
theorem dX11_close_22 : decode cX11_close 22 = .ok (.getfield 13, 3) := dk_180 0 13 (dk_at dksX11_close_1 0 rfl rfl)
theorem dX11_close_25 : decode cX11_close 25 = .ok (.iload_n 1, 1) := dk_27 (dk_at dksX11_close_1 3 rfl rfl)
theorem dX11_close_26 : decode cX11_close 26 = .ok (.iaload, 1) := dk_46 (dk_at dksX11_close_1 4 rfl rfl)
theorem dX11_close_27 : decode cX11_close 27 = .ok (.istore_n 2, 1) := dk_61 (dk_at dksX11_close_1 5 rfl rfl)
theorem dX11_close_28 : decode cX11_close 28 = .ok (.aload_n 0, 1) := dk_42 (dk_at dksX11_close_1 6 rfl rfl)
theorem dX11_close_29 : decode cX11_close 29 = .ok (.getfield 13, 3) := dk_180 0 13 (dk_at dksX11_close_1 7 rfl rfl)
theorem dX11_close_32 : decode cX11_close 32 = .ok (.iload_n 1, 1) := dk_27 (dk_at dksX11_close_1 10 rfl rfl)
theorem dX11_close_33 : decode cX11_close 33 = .ok (.iconst 0, 1) := dk_3 (dk_at dksX11_close_1 11 rfl rfl)
theorem dX11_close_34 : decode cX11_close 34 = .ok (.iastore, 1) := dk_79 (dk_at dksX11_close_1 12 rfl rfl)
theorem dX11_close_35 : decode cX11_close 35 = .ok (.aload_n 0, 1) := dk_42 (dk_at dksX11_close_1 13 rfl rfl)
theorem dX11_close_36 : decode cX11_close 36 = .ok (.iconst 0, 1) := dk_3 (dk_at dksX11_close_1 14 rfl rfl)
theorem dX11_close_37 : decode cX11_close 37 = .ok (.iload_n 2, 1) := dk_28 (dk_at dksX11_close_1 15 rfl rfl)
theorem dX11_close_38 : decode cX11_close 38 = .ok (.invokevirtual 233, 3) := dk_182 0 233 (dk_at dksX11_close_1 16 rfl rfl)
theorem dX11_close_41 : decode cX11_close 41 = .ok (.ifCond .gt 11, 3) := dk_157 0 11 (dk_at dksX11_close_1 19 rfl rfl)
theorem dX11_close_44 : decode cX11_close 44 = .ok (.aload_n 0, 1) := dk_42 (dk_at dksX11_close_1 22 rfl rfl)
theorem dX11_close_45 : decode cX11_close 45 = .ok (.iload_n 2, 1) := dk_28 (dk_at dksX11_close_1 23 rfl rfl)
theorem dX11_close_46 : decode cX11_close 46 = .ok (.invokevirtual 236, 3) := dk_182 0 236 (dk_at dksX11_close_2 0 rfl rfl)
theorem dX11_close_49 : decode cX11_close 49 = .ok (.ifCond .eq 5, 3) := dk_153 0 5 (dk_at dksX11_close_2 3 rfl rfl)
theorem dX11_close_52 : decode cX11_close 52 = .ok (.iconst 0, 1) := dk_3 (dk_at dksX11_close_2 6 rfl rfl)
theorem dX11_close_53 : decode cX11_close 53 = .ok (.ireturn, 1) := dk_172 (dk_at dksX11_close_2 7 rfl rfl)
theorem dX11_close_54 : decode cX11_close 54 = .ok (.aload_n 0, 1) := dk_42 (dk_at dksX11_close_2 8 rfl rfl)
theorem dX11_close_55 : decode cX11_close 55 = .ok (.bipush 8, 2) := dk_16 8 (dk_at dksX11_close_2 9 rfl rfl)
theorem dX11_close_57 : decode cX11_close 57 = .ok (.iload_n 2, 1) := dk_28 (dk_at dksX11_close_2 11 rfl rfl)
theorem dX11_close_58 : decode cX11_close 58 = .ok (.iconst 0, 1) := dk_3 (dk_at dksX11_close_2 12 rfl rfl)
theorem dX11_close_59 : decode cX11_close 59 = .ok (.invokevirtual 223, 3) := dk_182 0 223 (dk_at dksX11_close_2 13 rfl rfl)
theorem dX11_close_62 : decode cX11_close 62 = .ok (.pop, 1) := dk_87 (dk_at dksX11_close_2 16 rfl rfl)
theorem dX11_close_63 : decode cX11_close 63 = .ok (.aload_n 0, 1) := dk_42 (dk_at dksX11_close_2 17 rfl rfl)
theorem dX11_close_64 : decode cX11_close 64 = .ok (.bipush 48, 2) := dk_16 48 (dk_at dksX11_close_2 18 rfl rfl)
theorem dX11_close_66 : decode cX11_close 66 = .ok (.invokevirtual 226, 3) := dk_182 0 226 (dk_at dksX11_close_2 20 rfl rfl)
theorem dX11_close_69 : decode cX11_close 69 = .ok (.iconst 1, 1) := dk_4 (dk_at dksX11_close_2 23 rfl rfl)
theorem dX11_close_70 : decode cX11_close 70 = .ok (.ireturn, 1) := dk_172 (dk_at dksX11_close_3 0 rfl rfl)
abbrev cX11_isHandle : ByteArray := prog_12_method_65_code
def yX11_isHandle : MethodName := ⟨RX11, "isHandle", "(I)Z"⟩
def dkwX11_isHandle_1 : List UInt8 := [172]
abbrev dktX11_isHandle_1 : List UInt8 := dkwX11_isHandle_1 ++ []
def dkwX11_isHandle_0 : List UInt8 := [27, 155, 0, 22, 27, 16, 8, 162, 0, 16, 42, 180, 0, 13, 27, 46, 153, 0, 7, 4, 167, 0, 4, 3]
abbrev dktX11_isHandle_0 : List UInt8 := dkwX11_isHandle_0 ++ dktX11_isHandle_1
theorem dksX11_isHandle_0 : cX11_isHandle.data.toList.drop 0 = dktX11_isHandle_0 := by decide +kernel
theorem dksX11_isHandle_1 : cX11_isHandle.data.toList.drop 24 = dktX11_isHandle_1 := dk_seg dksX11_isHandle_0 24 rfl rfl
theorem dX11_isHandle_0 : decode cX11_isHandle 0 = .ok (.iload_n 1, 1) := dk_27 (dk_at dksX11_isHandle_0 0 rfl rfl)
theorem dX11_isHandle_1 : decode cX11_isHandle 1 = .ok (.ifCond .lt 22, 3) := dk_155 0 22 (dk_at dksX11_isHandle_0 1 rfl rfl)
theorem dX11_isHandle_4 : decode cX11_isHandle 4 = .ok (.iload_n 1, 1) := dk_27 (dk_at dksX11_isHandle_0 4 rfl rfl)
theorem dX11_isHandle_5 : decode cX11_isHandle 5 = .ok (.bipush 8, 2) := dk_16 8 (dk_at dksX11_isHandle_0 5 rfl rfl)
theorem dX11_isHandle_7 : decode cX11_isHandle 7 = .ok (.if_icmp .ge 16, 3) := dk_162 0 16 (dk_at dksX11_isHandle_0 7 rfl rfl)
theorem dX11_isHandle_10 : decode cX11_isHandle 10 = .ok (.aload_n 0, 1) := dk_42 (dk_at dksX11_isHandle_0 10 rfl rfl)
theorem dX11_isHandle_11 : decode cX11_isHandle 11 = .ok (.getfield 13, 3) := dk_180 0 13 (dk_at dksX11_isHandle_0 11 rfl rfl)
theorem dX11_isHandle_14 : decode cX11_isHandle 14 = .ok (.iload_n 1, 1) := dk_27 (dk_at dksX11_isHandle_0 14 rfl rfl)
theorem dX11_isHandle_15 : decode cX11_isHandle 15 = .ok (.iaload, 1) := dk_46 (dk_at dksX11_isHandle_0 15 rfl rfl)
theorem dX11_isHandle_16 : decode cX11_isHandle 16 = .ok (.ifCond .eq 7, 3) := dk_153 0 7 (dk_at dksX11_isHandle_0 16 rfl rfl)
theorem dX11_isHandle_19 : decode cX11_isHandle 19 = .ok (.iconst 1, 1) := dk_4 (dk_at dksX11_isHandle_0 19 rfl rfl)
theorem dX11_isHandle_20 : decode cX11_isHandle 20 = .ok (.goto 4, 3) := dk_167 0 4 (dk_at dksX11_isHandle_0 20 rfl rfl)
theorem dX11_isHandle_23 : decode cX11_isHandle 23 = .ok (.iconst 0, 1) := dk_3 (dk_at dksX11_isHandle_0 23 rfl rfl)
theorem dX11_isHandle_24 : decode cX11_isHandle 24 = .ok (.ireturn, 1) := dk_172 (dk_at dksX11_isHandle_1 0 rfl rfl)
abbrev cX11_opened : ByteArray := prog_12_method_67_code
def yX11_opened : MethodName := ⟨RX11, "opened", "(I)I"⟩
def dkwX11_opened_1 : List UInt8 := [27, 46, 167, 0, 4, 2, 172]
abbrev dktX11_opened_1 : List UInt8 := dkwX11_opened_1 ++ []
def dkwX11_opened_0 : List UInt8 := [42, 180, 0, 7, 154, 0, 8, 16, 254, 167, 0, 21, 42, 27, 182, 1, 32, 153, 0, 12, 42, 180, 0, 13]
abbrev dktX11_opened_0 : List UInt8 := dkwX11_opened_0 ++ dktX11_opened_1
theorem dksX11_opened_0 : cX11_opened.data.toList.drop 0 = dktX11_opened_0 := by decide +kernel
theorem dksX11_opened_1 : cX11_opened.data.toList.drop 24 = dktX11_opened_1 := dk_seg dksX11_opened_0 24 rfl rfl
theorem dX11_opened_0 : decode cX11_opened 0 = .ok (.aload_n 0, 1) := dk_42 (dk_at dksX11_opened_0 0 rfl rfl)
theorem dX11_opened_1 : decode cX11_opened 1 = .ok (.getfield 7, 3) := dk_180 0 7 (dk_at dksX11_opened_0 1 rfl rfl)
theorem dX11_opened_4 : decode cX11_opened 4 = .ok (.ifCond .ne 8, 3) := dk_154 0 8 (dk_at dksX11_opened_0 4 rfl rfl)
theorem dX11_opened_7 : decode cX11_opened 7 = .ok (.bipush (-2), 2) := dk_16 254 (dk_at dksX11_opened_0 7 rfl rfl)
theorem dX11_opened_9 : decode cX11_opened 9 = .ok (.goto 21, 3) := dk_167 0 21 (dk_at dksX11_opened_0 9 rfl rfl)
theorem dX11_opened_12 : decode cX11_opened 12 = .ok (.aload_n 0, 1) := dk_42 (dk_at dksX11_opened_0 12 rfl rfl)
theorem dX11_opened_13 : decode cX11_opened 13 = .ok (.iload_n 1, 1) := dk_27 (dk_at dksX11_opened_0 13 rfl rfl)
theorem dX11_opened_14 : decode cX11_opened 14 = .ok (.invokevirtual 288, 3) := dk_182 1 32 (dk_at dksX11_opened_0 14 rfl rfl)
theorem dX11_opened_17 : decode cX11_opened 17 = .ok (.ifCond .eq 12, 3) := dk_153 0 12 (dk_at dksX11_opened_0 17 rfl rfl)
theorem dX11_opened_20 : decode cX11_opened 20 = .ok (.aload_n 0, 1) := dk_42 (dk_at dksX11_opened_0 20 rfl rfl)
theorem dX11_opened_21 : decode cX11_opened 21 = .ok (.getfield 13, 3) := dk_180 0 13 (dk_at dksX11_opened_0 21 rfl rfl)
theorem dX11_opened_24 : decode cX11_opened 24 = .ok (.iload_n 1, 1) := dk_27 (dk_at dksX11_opened_1 0 rfl rfl)
theorem dX11_opened_25 : decode cX11_opened 25 = .ok (.iaload, 1) := dk_46 (dk_at dksX11_opened_1 1 rfl rfl)
theorem dX11_opened_26 : decode cX11_opened 26 = .ok (.goto 4, 3) := dk_167 0 4 (dk_at dksX11_opened_1 2 rfl rfl)
theorem dX11_opened_29 : decode cX11_opened 29 = .ok (.iconst (-1), 1) := dk_2 (dk_at dksX11_opened_1 5 rfl rfl)
theorem dX11_opened_30 : decode cX11_opened 30 = .ok (.ireturn, 1) := dk_172 (dk_at dksX11_opened_1 6 rfl rfl)
abbrev cX11_write : ByteArray := prog_12_method_70_code
def yX11_write : MethodName := ⟨RX11, "write", "(IIJI)I"⟩
def dkwX11_write_2 : List UInt8 := [42, 27, 28, 21, 5, 33, 3, 182, 1, 41, 172]
abbrev dktX11_write_2 : List UInt8 := dkwX11_write_2 ++ []
def dkwX11_write_1 : List UInt8 := [21, 5, 16, 8, 163, 0, 17, 28, 155, 0, 13, 28, 17, 64, 0, 21, 5, 100, 164, 0, 6, 16, 253, 172]
abbrev dktX11_write_1 : List UInt8 := dkwX11_write_1 ++ dktX11_write_2
def dkwX11_write_0 : List UInt8 := [42, 180, 0, 7, 154, 0, 6, 16, 254, 172, 42, 27, 182, 1, 32, 153, 0, 30, 21, 5, 4, 161, 0, 24]
abbrev dktX11_write_0 : List UInt8 := dkwX11_write_0 ++ dktX11_write_1
theorem dksX11_write_0 : cX11_write.data.toList.drop 0 = dktX11_write_0 := by decide +kernel
theorem dksX11_write_1 : cX11_write.data.toList.drop 24 = dktX11_write_1 := dk_seg dksX11_write_0 24 rfl rfl
theorem dksX11_write_2 : cX11_write.data.toList.drop 48 = dktX11_write_2 := dk_seg dksX11_write_1 24 rfl rfl
theorem dX11_write_0 : decode cX11_write 0 = .ok (.aload_n 0, 1) := dk_42 (dk_at dksX11_write_0 0 rfl rfl)
theorem dX11_write_1 : decode cX11_write 1 = .ok (.getfield 7, 3) := dk_180 0 7 (dk_at dksX11_write_0 1 rfl rfl)
theorem dX11_write_4 : decode cX11_write 4 = .ok (.ifCond .ne 6, 3) := dk_154 0 6 (dk_at dksX11_write_0 4 rfl rfl)
theorem dX11_write_7 : decode cX11_write 7 = .ok (.bipush (-2), 2) := dk_16 254 (dk_at dksX11_write_0 7 rfl rfl)
theorem dX11_write_9 : decode cX11_write 9 = .ok (.ireturn, 1) := dk_172 (dk_at dksX11_write_0 9 rfl rfl)
theorem dX11_write_10 : decode cX11_write 10 = .ok (.aload_n 0, 1) := dk_42 (dk_at dksX11_write_0 10 rfl rfl)
theorem dX11_write_11 : decode cX11_write 11 = .ok (.iload_n 1, 1) := dk_27 (dk_at dksX11_write_0 11 rfl rfl)
theorem dX11_write_12 : decode cX11_write 12 = .ok (.invokevirtual 288, 3) := dk_182 1 32 (dk_at dksX11_write_0 12 rfl rfl)
theorem dX11_write_15 : decode cX11_write 15 = .ok (.ifCond .eq 30, 3) := dk_153 0 30 (dk_at dksX11_write_0 15 rfl rfl)
theorem dX11_write_18 : decode cX11_write 18 = .ok (.iload 5, 2) := dk_21 5 (dk_at dksX11_write_0 18 rfl rfl)
theorem dX11_write_20 : decode cX11_write 20 = .ok (.iconst 1, 1) := dk_4 (dk_at dksX11_write_0 20 rfl rfl)
theorem dX11_write_21 : decode cX11_write 21 = .ok (.if_icmp .lt 24, 3) := dk_161 0 24 (dk_at dksX11_write_0 21 rfl rfl)
theorem dX11_write_24 : decode cX11_write 24 = .ok (.iload 5, 2) := dk_21 5 (dk_at dksX11_write_1 0 rfl rfl)
theorem dX11_write_26 : decode cX11_write 26 = .ok (.bipush 8, 2) := dk_16 8 (dk_at dksX11_write_1 2 rfl rfl)
theorem dX11_write_28 : decode cX11_write 28 = .ok (.if_icmp .gt 17, 3) := dk_163 0 17 (dk_at dksX11_write_1 4 rfl rfl)
theorem dX11_write_31 : decode cX11_write 31 = .ok (.iload_n 2, 1) := dk_28 (dk_at dksX11_write_1 7 rfl rfl)
theorem dX11_write_32 : decode cX11_write 32 = .ok (.ifCond .lt 13, 3) := dk_155 0 13 (dk_at dksX11_write_1 8 rfl rfl)
theorem dX11_write_35 : decode cX11_write 35 = .ok (.iload_n 2, 1) := dk_28 (dk_at dksX11_write_1 11 rfl rfl)
theorem dX11_write_36 : decode cX11_write 36 = .ok (.sipush 16384, 3) := dk_17 64 0 (dk_at dksX11_write_1 12 rfl rfl)
theorem dX11_write_39 : decode cX11_write 39 = .ok (.iload 5, 2) := dk_21 5 (dk_at dksX11_write_1 15 rfl rfl)
theorem dX11_write_41 : decode cX11_write 41 = .ok (.isub, 1) := dk_100 (dk_at dksX11_write_1 17 rfl rfl)
theorem dX11_write_42 : decode cX11_write 42 = .ok (.if_icmp .le 6, 3) := dk_164 0 6 (dk_at dksX11_write_1 18 rfl rfl)
theorem dX11_write_45 : decode cX11_write 45 = .ok (.bipush (-3), 2) := dk_16 253 (dk_at dksX11_write_1 21 rfl rfl)
theorem dX11_write_47 : decode cX11_write 47 = .ok (.ireturn, 1) := dk_172 (dk_at dksX11_write_1 23 rfl rfl)
theorem dX11_write_48 : decode cX11_write 48 = .ok (.aload_n 0, 1) := dk_42 (dk_at dksX11_write_2 0 rfl rfl)
theorem dX11_write_49 : decode cX11_write 49 = .ok (.iload_n 1, 1) := dk_27 (dk_at dksX11_write_2 1 rfl rfl)
theorem dX11_write_50 : decode cX11_write 50 = .ok (.iload_n 2, 1) := dk_28 (dk_at dksX11_write_2 2 rfl rfl)
theorem dX11_write_51 : decode cX11_write 51 = .ok (.iload 5, 2) := dk_21 5 (dk_at dksX11_write_2 3 rfl rfl)
theorem dX11_write_53 : decode cX11_write 53 = .ok (.lload_n 3, 1) := dk_33 (dk_at dksX11_write_2 5 rfl rfl)
theorem dX11_write_54 : decode cX11_write 54 = .ok (.iconst 0, 1) := dk_3 (dk_at dksX11_write_2 6 rfl rfl)
theorem dX11_write_55 : decode cX11_write 55 = .ok (.invokevirtual 297, 3) := dk_182 1 41 (dk_at dksX11_write_2 7 rfl rfl)
theorem dX11_write_58 : decode cX11_write 58 = .ok (.ireturn, 1) := dk_172 (dk_at dksX11_write_2 10 rfl rfl)
abbrev cX11_writeAll : ByteArray := prog_12_method_69_code
def yX11_writeAll : MethodName := ⟨RX11, "writeAll", "(IIIJI)I"⟩
def dkwX11_writeAll_4 : List UInt8 := [21, 7, 154, 0, 8, 16, 246, 167, 0, 5, 21, 7, 172]
abbrev dktX11_writeAll_4 : List UInt8 := dkwX11_writeAll_4 ++ []
def dkwX11_writeAll_3 : List UInt8 := [182, 1, 37, 54, 8, 21, 7, 21, 8, 153, 0, 8, 21, 11, 167, 0, 4, 3, 96, 54, 7, 167, 255, 171]
abbrev dktX11_writeAll_3 : List UInt8 := dkwX11_writeAll_3 ++ dktX11_writeAll_4
def dkwX11_writeAll_2 : List UInt8 := [167, 0, 5, 21, 10, 54, 11, 42, 42, 180, 0, 13, 27, 46, 21, 9, 21, 11, 21, 7, 22, 4, 21, 6]
abbrev dktX11_writeAll_2 : List UInt8 := dkwX11_writeAll_2 ++ dktX11_writeAll_3
def dkwX11_writeAll_1 : List UInt8 := [16, 64, 21, 9, 16, 64, 112, 100, 54, 10, 29, 21, 7, 100, 21, 10, 162, 0, 10, 29, 21, 7, 100]
abbrev dktX11_writeAll_1 : List UInt8 := dkwX11_writeAll_1 ++ dktX11_writeAll_2
def dkwX11_writeAll_0 : List UInt8 := [3, 54, 7, 4, 54, 8, 21, 7, 29, 162, 0, 85, 21, 8, 153, 0, 80, 28, 21, 7, 96, 54, 9]
abbrev dktX11_writeAll_0 : List UInt8 := dkwX11_writeAll_0 ++ dktX11_writeAll_1
theorem dksX11_writeAll_0 : cX11_writeAll.data.toList.drop 0 = dktX11_writeAll_0 := by decide +kernel
theorem dksX11_writeAll_1 : cX11_writeAll.data.toList.drop 23 = dktX11_writeAll_1 := dk_seg dksX11_writeAll_0 23 rfl rfl
theorem dksX11_writeAll_2 : cX11_writeAll.data.toList.drop 46 = dktX11_writeAll_2 := dk_seg dksX11_writeAll_1 23 rfl rfl
theorem dksX11_writeAll_3 : cX11_writeAll.data.toList.drop 70 = dktX11_writeAll_3 := dk_seg dksX11_writeAll_2 24 rfl rfl
theorem dksX11_writeAll_4 : cX11_writeAll.data.toList.drop 94 = dktX11_writeAll_4 := dk_seg dksX11_writeAll_3 24 rfl rfl
theorem dX11_writeAll_0 : decode cX11_writeAll 0 = .ok (.iconst 0, 1) := dk_3 (dk_at dksX11_writeAll_0 0 rfl rfl)
theorem dX11_writeAll_1 : decode cX11_writeAll 1 = .ok (.istore 7, 2) := dk_54 7 (dk_at dksX11_writeAll_0 1 rfl rfl)
theorem dX11_writeAll_3 : decode cX11_writeAll 3 = .ok (.iconst 1, 1) := dk_4 (dk_at dksX11_writeAll_0 3 rfl rfl)
theorem dX11_writeAll_4 : decode cX11_writeAll 4 = .ok (.istore 8, 2) := dk_54 8 (dk_at dksX11_writeAll_0 4 rfl rfl)
theorem dX11_writeAll_6 : decode cX11_writeAll 6 = .ok (.iload 7, 2) := dk_21 7 (dk_at dksX11_writeAll_0 6 rfl rfl)
theorem dX11_writeAll_8 : decode cX11_writeAll 8 = .ok (.iload_n 3, 1) := dk_29 (dk_at dksX11_writeAll_0 8 rfl rfl)
theorem dX11_writeAll_9 : decode cX11_writeAll 9 = .ok (.if_icmp .ge 85, 3) := dk_162 0 85 (dk_at dksX11_writeAll_0 9 rfl rfl)
theorem dX11_writeAll_12 : decode cX11_writeAll 12 = .ok (.iload 8, 2) := dk_21 8 (dk_at dksX11_writeAll_0 12 rfl rfl)
theorem dX11_writeAll_14 : decode cX11_writeAll 14 = .ok (.ifCond .eq 80, 3) := dk_153 0 80 (dk_at dksX11_writeAll_0 14 rfl rfl)
theorem dX11_writeAll_17 : decode cX11_writeAll 17 = .ok (.iload_n 2, 1) := dk_28 (dk_at dksX11_writeAll_0 17 rfl rfl)
theorem dX11_writeAll_18 : decode cX11_writeAll 18 = .ok (.iload 7, 2) := dk_21 7 (dk_at dksX11_writeAll_0 18 rfl rfl)
theorem dX11_writeAll_20 : decode cX11_writeAll 20 = .ok (.iadd, 1) := dk_96 (dk_at dksX11_writeAll_0 20 rfl rfl)
theorem dX11_writeAll_21 : decode cX11_writeAll 21 = .ok (.istore 9, 2) := dk_54 9 (dk_at dksX11_writeAll_0 21 rfl rfl)
theorem dX11_writeAll_23 : decode cX11_writeAll 23 = .ok (.bipush 64, 2) := dk_16 64 (dk_at dksX11_writeAll_1 0 rfl rfl)
theorem dX11_writeAll_25 : decode cX11_writeAll 25 = .ok (.iload 9, 2) := dk_21 9 (dk_at dksX11_writeAll_1 2 rfl rfl)
theorem dX11_writeAll_27 : decode cX11_writeAll 27 = .ok (.bipush 64, 2) := dk_16 64 (dk_at dksX11_writeAll_1 4 rfl rfl)
theorem dX11_writeAll_29 : decode cX11_writeAll 29 = .ok (.irem, 1) := dk_112 (dk_at dksX11_writeAll_1 6 rfl rfl)
theorem dX11_writeAll_30 : decode cX11_writeAll 30 = .ok (.isub, 1) := dk_100 (dk_at dksX11_writeAll_1 7 rfl rfl)
theorem dX11_writeAll_31 : decode cX11_writeAll 31 = .ok (.istore 10, 2) := dk_54 10 (dk_at dksX11_writeAll_1 8 rfl rfl)
theorem dX11_writeAll_33 : decode cX11_writeAll 33 = .ok (.iload_n 3, 1) := dk_29 (dk_at dksX11_writeAll_1 10 rfl rfl)
theorem dX11_writeAll_34 : decode cX11_writeAll 34 = .ok (.iload 7, 2) := dk_21 7 (dk_at dksX11_writeAll_1 11 rfl rfl)
theorem dX11_writeAll_36 : decode cX11_writeAll 36 = .ok (.isub, 1) := dk_100 (dk_at dksX11_writeAll_1 13 rfl rfl)
theorem dX11_writeAll_37 : decode cX11_writeAll 37 = .ok (.iload 10, 2) := dk_21 10 (dk_at dksX11_writeAll_1 14 rfl rfl)
theorem dX11_writeAll_39 : decode cX11_writeAll 39 = .ok (.if_icmp .ge 10, 3) := dk_162 0 10 (dk_at dksX11_writeAll_1 16 rfl rfl)
theorem dX11_writeAll_42 : decode cX11_writeAll 42 = .ok (.iload_n 3, 1) := dk_29 (dk_at dksX11_writeAll_1 19 rfl rfl)
theorem dX11_writeAll_43 : decode cX11_writeAll 43 = .ok (.iload 7, 2) := dk_21 7 (dk_at dksX11_writeAll_1 20 rfl rfl)
theorem dX11_writeAll_45 : decode cX11_writeAll 45 = .ok (.isub, 1) := dk_100 (dk_at dksX11_writeAll_1 22 rfl rfl)
theorem dX11_writeAll_46 : decode cX11_writeAll 46 = .ok (.goto 5, 3) := dk_167 0 5 (dk_at dksX11_writeAll_2 0 rfl rfl)
theorem dX11_writeAll_49 : decode cX11_writeAll 49 = .ok (.iload 10, 2) := dk_21 10 (dk_at dksX11_writeAll_2 3 rfl rfl)
theorem dX11_writeAll_51 : decode cX11_writeAll 51 = .ok (.istore 11, 2) := dk_54 11 (dk_at dksX11_writeAll_2 5 rfl rfl)
theorem dX11_writeAll_53 : decode cX11_writeAll 53 = .ok (.aload_n 0, 1) := dk_42 (dk_at dksX11_writeAll_2 7 rfl rfl)
theorem dX11_writeAll_54 : decode cX11_writeAll 54 = .ok (.aload_n 0, 1) := dk_42 (dk_at dksX11_writeAll_2 8 rfl rfl)
theorem dX11_writeAll_55 : decode cX11_writeAll 55 = .ok (.getfield 13, 3) := dk_180 0 13 (dk_at dksX11_writeAll_2 9 rfl rfl)
theorem dX11_writeAll_58 : decode cX11_writeAll 58 = .ok (.iload_n 1, 1) := dk_27 (dk_at dksX11_writeAll_2 12 rfl rfl)
theorem dX11_writeAll_59 : decode cX11_writeAll 59 = .ok (.iaload, 1) := dk_46 (dk_at dksX11_writeAll_2 13 rfl rfl)
theorem dX11_writeAll_60 : decode cX11_writeAll 60 = .ok (.iload 9, 2) := dk_21 9 (dk_at dksX11_writeAll_2 14 rfl rfl)
theorem dX11_writeAll_62 : decode cX11_writeAll 62 = .ok (.iload 11, 2) := dk_21 11 (dk_at dksX11_writeAll_2 16 rfl rfl)
theorem dX11_writeAll_64 : decode cX11_writeAll 64 = .ok (.iload 7, 2) := dk_21 7 (dk_at dksX11_writeAll_2 18 rfl rfl)
theorem dX11_writeAll_66 : decode cX11_writeAll 66 = .ok (.lload 4, 2) := dk_22 4 (dk_at dksX11_writeAll_2 20 rfl rfl)
theorem dX11_writeAll_68 : decode cX11_writeAll 68 = .ok (.iload 6, 2) := dk_21 6 (dk_at dksX11_writeAll_2 22 rfl rfl)
theorem dX11_writeAll_70 : decode cX11_writeAll 70 = .ok (.invokevirtual 293, 3) := dk_182 1 37 (dk_at dksX11_writeAll_3 0 rfl rfl)
theorem dX11_writeAll_73 : decode cX11_writeAll 73 = .ok (.istore 8, 2) := dk_54 8 (dk_at dksX11_writeAll_3 3 rfl rfl)
theorem dX11_writeAll_75 : decode cX11_writeAll 75 = .ok (.iload 7, 2) := dk_21 7 (dk_at dksX11_writeAll_3 5 rfl rfl)
theorem dX11_writeAll_77 : decode cX11_writeAll 77 = .ok (.iload 8, 2) := dk_21 8 (dk_at dksX11_writeAll_3 7 rfl rfl)
theorem dX11_writeAll_79 : decode cX11_writeAll 79 = .ok (.ifCond .eq 8, 3) := dk_153 0 8 (dk_at dksX11_writeAll_3 9 rfl rfl)
theorem dX11_writeAll_82 : decode cX11_writeAll 82 = .ok (.iload 11, 2) := dk_21 11 (dk_at dksX11_writeAll_3 12 rfl rfl)
theorem dX11_writeAll_84 : decode cX11_writeAll 84 = .ok (.goto 4, 3) := dk_167 0 4 (dk_at dksX11_writeAll_3 14 rfl rfl)
theorem dX11_writeAll_87 : decode cX11_writeAll 87 = .ok (.iconst 0, 1) := dk_3 (dk_at dksX11_writeAll_3 17 rfl rfl)
theorem dX11_writeAll_88 : decode cX11_writeAll 88 = .ok (.iadd, 1) := dk_96 (dk_at dksX11_writeAll_3 18 rfl rfl)
theorem dX11_writeAll_89 : decode cX11_writeAll 89 = .ok (.istore 7, 2) := dk_54 7 (dk_at dksX11_writeAll_3 19 rfl rfl)
theorem dX11_writeAll_91 : decode cX11_writeAll 91 = .ok (.goto (-85), 3) := dk_167 255 171 (dk_at dksX11_writeAll_3 21 rfl rfl)
theorem dX11_writeAll_94 : decode cX11_writeAll 94 = .ok (.iload 7, 2) := dk_21 7 (dk_at dksX11_writeAll_4 0 rfl rfl)
theorem dX11_writeAll_96 : decode cX11_writeAll 96 = .ok (.ifCond .ne 8, 3) := dk_154 0 8 (dk_at dksX11_writeAll_4 2 rfl rfl)
theorem dX11_writeAll_99 : decode cX11_writeAll 99 = .ok (.bipush (-10), 2) := dk_16 246 (dk_at dksX11_writeAll_4 5 rfl rfl)
theorem dX11_writeAll_101 : decode cX11_writeAll 101 = .ok (.goto 5, 3) := dk_167 0 5 (dk_at dksX11_writeAll_4 7 rfl rfl)
theorem dX11_writeAll_104 : decode cX11_writeAll 104 = .ok (.iload 7, 2) := dk_21 7 (dk_at dksX11_writeAll_4 10 rfl rfl)
theorem dX11_writeAll_106 : decode cX11_writeAll 106 = .ok (.ireturn, 1) := dk_172 (dk_at dksX11_writeAll_4 12 rfl rfl)
abbrev cX11_writePart : ByteArray := prog_12_method_68_code
def yX11_writePart : MethodName := ⟨RX11, "writePart", "(IIIIJI)Z"⟩
def dkwX11_writePart_14 : List UInt8 := [184, 0, 154, 96, 182, 0, 226, 4, 172]
abbrev dktX11_writePart_14 : List UInt8 := dkwX11_writePart_14 ++ []
def dkwX11_writePart_13 : List UInt8 := [104, 21, 16, 96, 42, 180, 0, 105, 21, 16, 51, 84, 132, 16, 1, 167, 255, 226, 42, 16, 80, 21, 12]
abbrev dktX11_writePart_13 : List UInt8 := dkwX11_writePart_13 ++ dktX11_writePart_14
def dkwX11_writePart_12 : List UInt8 := [167, 0, 5, 21, 14, 79, 3, 54, 16, 21, 16, 16, 64, 162, 0, 29, 42, 180, 0, 102, 16, 64, 21, 15]
abbrev dktX11_writePart_12 : List UInt8 := dkwX11_writePart_12 ++ dktX11_writePart_13
def dkwX11_writePart_11 : List UInt8 := [21, 15, 21, 12, 79, 42, 180, 0, 89, 21, 15, 28, 29, 96, 21, 14, 164, 0, 9, 28, 29, 96]
abbrev dktX11_writePart_11 : List UInt8 := dkwX11_writePart_11 ++ dktX11_writePart_12
def dkwX11_writePart_10 : List UInt8 := [42, 3, 27, 182, 0, 143, 46, 54, 14, 42, 16, 6, 27, 21, 8, 182, 0, 223, 54, 15, 42, 180, 0, 86]
abbrev dktX11_writePart_10 : List UInt8 := dkwX11_writePart_10 ++ dktX11_writePart_11
def dkwX11_writePart_9 : List UInt8 := [167, 0, 11, 22, 5, 16, 8, 21, 15, 104, 123, 136, 145, 84, 132, 14, 1, 167, 255, 185, 42, 180, 0, 29]
abbrev dktX11_writePart_9 : List UInt8 := dkwX11_writePart_9 ++ dktX11_writePart_10
def dkwX11_writePart_8 : List UInt8 := [21, 15, 51, 167, 0, 32, 21, 7, 4, 160, 0, 16, 22, 5, 20, 1, 35, 21, 15, 133, 105, 97]
abbrev dktX11_writePart_8 : List UInt8 := dkwX11_writePart_8 ++ dktX11_writePart_9
def dkwX11_writePart_7 : List UInt8 := [21, 14, 96, 54, 15, 42, 180, 0, 105, 21, 9, 21, 14, 96, 21, 7, 5, 160, 0, 13, 42, 180, 0, 108]
abbrev dktX11_writePart_7 : List UInt8 := dkwX11_writePart_7 ++ dktX11_writePart_8
def dkwX11_writePart_6 : List UInt8 := [51, 167, 0, 4, 3, 84, 132, 14, 1, 167, 255, 215, 3, 54, 14, 21, 14, 29, 162, 0, 71, 21, 4]
abbrev dktX11_writePart_6 : List UInt8 := dkwX11_writePart_6 ++ dktX11_writePart_7
def dkwX11_writePart_5 : List UInt8 := [180, 0, 105, 21, 14, 21, 14, 21, 11, 162, 0, 19, 42, 180, 0, 70, 16, 64, 21, 10, 104, 21, 14, 96]
abbrev dktX11_writePart_5 : List UInt8 := dkwX11_writePart_5 ++ dktX11_writePart_6
def dkwX11_writePart_4 : List UInt8 := [184, 0, 154, 96, 42, 180, 0, 133, 164, 0, 5, 3, 172, 3, 54, 14, 21, 14, 16, 64, 162, 0, 40, 42]
abbrev dktX11_writePart_4 : List UInt8 := dkwX11_writePart_4 ++ dktX11_writePart_5
def dkwX11_writePart_3 : List UInt8 := [17, 0, 224, 21, 11, 184, 0, 154, 96, 54, 13, 42, 182, 0, 219, 21, 13, 100, 17, 0, 224, 96, 21, 12]
abbrev dktX11_writePart_3 : List UInt8 := dkwX11_writePart_3 ++ dktX11_writePart_4
def dkwX11_writePart_2 : List UInt8 := [164, 0, 10, 21, 9, 29, 96, 167, 0, 5, 21, 11, 54, 12, 21, 10, 2, 160, 0, 7, 3, 167, 0, 12]
abbrev dktX11_writePart_2 : List UInt8 := dkwX11_writePart_2 ++ dktX11_writePart_3
def dkwX11_writePart_1 : List UInt8 := [2, 160, 0, 7, 3, 167, 0, 10, 42, 180, 0, 66, 21, 10, 46, 54, 11, 21, 9, 29, 96, 21, 11]
abbrev dktX11_writePart_1 : List UInt8 := dkwX11_writePart_1 ++ dktX11_writePart_2
def dkwX11_writePart_0 : List UInt8 := [28, 16, 64, 108, 54, 8, 28, 16, 64, 112, 54, 9, 42, 3, 27, 21, 8, 182, 0, 158, 54, 10, 21, 10]
abbrev dktX11_writePart_0 : List UInt8 := dkwX11_writePart_0 ++ dktX11_writePart_1
theorem dksX11_writePart_0 : cX11_writePart.data.toList.drop 0 = dktX11_writePart_0 := by decide +kernel
theorem dksX11_writePart_1 : cX11_writePart.data.toList.drop 24 = dktX11_writePart_1 := dk_seg dksX11_writePart_0 24 rfl rfl
theorem dksX11_writePart_2 : cX11_writePart.data.toList.drop 47 = dktX11_writePart_2 := dk_seg dksX11_writePart_1 23 rfl rfl
theorem dksX11_writePart_3 : cX11_writePart.data.toList.drop 71 = dktX11_writePart_3 := dk_seg dksX11_writePart_2 24 rfl rfl
theorem dksX11_writePart_4 : cX11_writePart.data.toList.drop 95 = dktX11_writePart_4 := dk_seg dksX11_writePart_3 24 rfl rfl
theorem dksX11_writePart_5 : cX11_writePart.data.toList.drop 119 = dktX11_writePart_5 := dk_seg dksX11_writePart_4 24 rfl rfl
theorem dksX11_writePart_6 : cX11_writePart.data.toList.drop 143 = dktX11_writePart_6 := dk_seg dksX11_writePart_5 24 rfl rfl
theorem dksX11_writePart_7 : cX11_writePart.data.toList.drop 166 = dktX11_writePart_7 := dk_seg dksX11_writePart_6 23 rfl rfl
theorem dksX11_writePart_8 : cX11_writePart.data.toList.drop 190 = dktX11_writePart_8 := dk_seg dksX11_writePart_7 24 rfl rfl
theorem dksX11_writePart_9 : cX11_writePart.data.toList.drop 212 = dktX11_writePart_9 := dk_seg dksX11_writePart_8 22 rfl rfl
theorem dksX11_writePart_10 : cX11_writePart.data.toList.drop 236 = dktX11_writePart_10 := dk_seg dksX11_writePart_9 24 rfl rfl
theorem dksX11_writePart_11 : cX11_writePart.data.toList.drop 260 = dktX11_writePart_11 := dk_seg dksX11_writePart_10 24 rfl rfl
theorem dksX11_writePart_12 : cX11_writePart.data.toList.drop 282 = dktX11_writePart_12 := dk_seg dksX11_writePart_11 22 rfl rfl
theorem dksX11_writePart_13 : cX11_writePart.data.toList.drop 306 = dktX11_writePart_13 := dk_seg dksX11_writePart_12 24 rfl rfl
theorem dksX11_writePart_14 : cX11_writePart.data.toList.drop 329 = dktX11_writePart_14 := dk_seg dksX11_writePart_13 23 rfl rfl
theorem dX11_writePart_0 : decode cX11_writePart 0 = .ok (.iload_n 2, 1) := dk_28 (dk_at dksX11_writePart_0 0 rfl rfl)
theorem dX11_writePart_1 : decode cX11_writePart 1 = .ok (.bipush 64, 2) := dk_16 64 (dk_at dksX11_writePart_0 1 rfl rfl)
theorem dX11_writePart_3 : decode cX11_writePart 3 = .ok (.idiv, 1) := dk_108 (dk_at dksX11_writePart_0 3 rfl rfl)
theorem dX11_writePart_4 : decode cX11_writePart 4 = .ok (.istore 8, 2) := dk_54 8 (dk_at dksX11_writePart_0 4 rfl rfl)
theorem dX11_writePart_6 : decode cX11_writePart 6 = .ok (.iload_n 2, 1) := dk_28 (dk_at dksX11_writePart_0 6 rfl rfl)
theorem dX11_writePart_7 : decode cX11_writePart 7 = .ok (.bipush 64, 2) := dk_16 64 (dk_at dksX11_writePart_0 7 rfl rfl)
theorem dX11_writePart_9 : decode cX11_writePart 9 = .ok (.irem, 1) := dk_112 (dk_at dksX11_writePart_0 9 rfl rfl)
theorem dX11_writePart_10 : decode cX11_writePart 10 = .ok (.istore 9, 2) := dk_54 9 (dk_at dksX11_writePart_0 10 rfl rfl)
theorem dX11_writePart_12 : decode cX11_writePart 12 = .ok (.aload_n 0, 1) := dk_42 (dk_at dksX11_writePart_0 12 rfl rfl)
theorem dX11_writePart_13 : decode cX11_writePart 13 = .ok (.iconst 0, 1) := dk_3 (dk_at dksX11_writePart_0 13 rfl rfl)
theorem dX11_writePart_14 : decode cX11_writePart 14 = .ok (.iload_n 1, 1) := dk_27 (dk_at dksX11_writePart_0 14 rfl rfl)
theorem dX11_writePart_15 : decode cX11_writePart 15 = .ok (.iload 8, 2) := dk_21 8 (dk_at dksX11_writePart_0 15 rfl rfl)
theorem dX11_writePart_17 : decode cX11_writePart 17 = .ok (.invokevirtual 158, 3) := dk_182 0 158 (dk_at dksX11_writePart_0 17 rfl rfl)
theorem dX11_writePart_20 : decode cX11_writePart 20 = .ok (.istore 10, 2) := dk_54 10 (dk_at dksX11_writePart_0 20 rfl rfl)
theorem dX11_writePart_22 : decode cX11_writePart 22 = .ok (.iload 10, 2) := dk_21 10 (dk_at dksX11_writePart_0 22 rfl rfl)
theorem dX11_writePart_24 : decode cX11_writePart 24 = .ok (.iconst (-1), 1) := dk_2 (dk_at dksX11_writePart_1 0 rfl rfl)
theorem dX11_writePart_25 : decode cX11_writePart 25 = .ok (.if_icmp .ne 7, 3) := dk_160 0 7 (dk_at dksX11_writePart_1 1 rfl rfl)
theorem dX11_writePart_28 : decode cX11_writePart 28 = .ok (.iconst 0, 1) := dk_3 (dk_at dksX11_writePart_1 4 rfl rfl)
theorem dX11_writePart_29 : decode cX11_writePart 29 = .ok (.goto 10, 3) := dk_167 0 10 (dk_at dksX11_writePart_1 5 rfl rfl)
theorem dX11_writePart_32 : decode cX11_writePart 32 = .ok (.aload_n 0, 1) := dk_42 (dk_at dksX11_writePart_1 8 rfl rfl)
theorem dX11_writePart_33 : decode cX11_writePart 33 = .ok (.getfield 66, 3) := dk_180 0 66 (dk_at dksX11_writePart_1 9 rfl rfl)
theorem dX11_writePart_36 : decode cX11_writePart 36 = .ok (.iload 10, 2) := dk_21 10 (dk_at dksX11_writePart_1 12 rfl rfl)
theorem dX11_writePart_38 : decode cX11_writePart 38 = .ok (.iaload, 1) := dk_46 (dk_at dksX11_writePart_1 14 rfl rfl)
theorem dX11_writePart_39 : decode cX11_writePart 39 = .ok (.istore 11, 2) := dk_54 11 (dk_at dksX11_writePart_1 15 rfl rfl)
theorem dX11_writePart_41 : decode cX11_writePart 41 = .ok (.iload 9, 2) := dk_21 9 (dk_at dksX11_writePart_1 17 rfl rfl)
theorem dX11_writePart_43 : decode cX11_writePart 43 = .ok (.iload_n 3, 1) := dk_29 (dk_at dksX11_writePart_1 19 rfl rfl)
theorem dX11_writePart_44 : decode cX11_writePart 44 = .ok (.iadd, 1) := dk_96 (dk_at dksX11_writePart_1 20 rfl rfl)
theorem dX11_writePart_45 : decode cX11_writePart 45 = .ok (.iload 11, 2) := dk_21 11 (dk_at dksX11_writePart_1 21 rfl rfl)
theorem dX11_writePart_47 : decode cX11_writePart 47 = .ok (.if_icmp .le 10, 3) := dk_164 0 10 (dk_at dksX11_writePart_2 0 rfl rfl)
theorem dX11_writePart_50 : decode cX11_writePart 50 = .ok (.iload 9, 2) := dk_21 9 (dk_at dksX11_writePart_2 3 rfl rfl)
theorem dX11_writePart_52 : decode cX11_writePart 52 = .ok (.iload_n 3, 1) := dk_29 (dk_at dksX11_writePart_2 5 rfl rfl)
theorem dX11_writePart_53 : decode cX11_writePart 53 = .ok (.iadd, 1) := dk_96 (dk_at dksX11_writePart_2 6 rfl rfl)
theorem dX11_writePart_54 : decode cX11_writePart 54 = .ok (.goto 5, 3) := dk_167 0 5 (dk_at dksX11_writePart_2 7 rfl rfl)
theorem dX11_writePart_57 : decode cX11_writePart 57 = .ok (.iload 11, 2) := dk_21 11 (dk_at dksX11_writePart_2 10 rfl rfl)
theorem dX11_writePart_59 : decode cX11_writePart 59 = .ok (.istore 12, 2) := dk_54 12 (dk_at dksX11_writePart_2 12 rfl rfl)
theorem dX11_writePart_61 : decode cX11_writePart 61 = .ok (.iload 10, 2) := dk_21 10 (dk_at dksX11_writePart_2 14 rfl rfl)
theorem dX11_writePart_63 : decode cX11_writePart 63 = .ok (.iconst (-1), 1) := dk_2 (dk_at dksX11_writePart_2 16 rfl rfl)
theorem dX11_writePart_64 : decode cX11_writePart 64 = .ok (.if_icmp .ne 7, 3) := dk_160 0 7 (dk_at dksX11_writePart_2 17 rfl rfl)
theorem dX11_writePart_67 : decode cX11_writePart 67 = .ok (.iconst 0, 1) := dk_3 (dk_at dksX11_writePart_2 20 rfl rfl)
theorem dX11_writePart_68 : decode cX11_writePart 68 = .ok (.goto 12, 3) := dk_167 0 12 (dk_at dksX11_writePart_2 21 rfl rfl)
theorem dX11_writePart_71 : decode cX11_writePart 71 = .ok (.sipush 224, 3) := dk_17 0 224 (dk_at dksX11_writePart_3 0 rfl rfl)
theorem dX11_writePart_74 : decode cX11_writePart 74 = .ok (.iload 11, 2) := dk_21 11 (dk_at dksX11_writePart_3 3 rfl rfl)
theorem dX11_writePart_76 : decode cX11_writePart 76 = .ok (.invokestatic 154, 3) := dk_184 0 154 (dk_at dksX11_writePart_3 5 rfl rfl)
theorem dX11_writePart_79 : decode cX11_writePart 79 = .ok (.iadd, 1) := dk_96 (dk_at dksX11_writePart_3 8 rfl rfl)
theorem dX11_writePart_80 : decode cX11_writePart 80 = .ok (.istore 13, 2) := dk_54 13 (dk_at dksX11_writePart_3 9 rfl rfl)
theorem dX11_writePart_82 : decode cX11_writePart 82 = .ok (.aload_n 0, 1) := dk_42 (dk_at dksX11_writePart_3 11 rfl rfl)
theorem dX11_writePart_83 : decode cX11_writePart 83 = .ok (.invokevirtual 219, 3) := dk_182 0 219 (dk_at dksX11_writePart_3 12 rfl rfl)
theorem dX11_writePart_86 : decode cX11_writePart 86 = .ok (.iload 13, 2) := dk_21 13 (dk_at dksX11_writePart_3 15 rfl rfl)
theorem dX11_writePart_88 : decode cX11_writePart 88 = .ok (.isub, 1) := dk_100 (dk_at dksX11_writePart_3 17 rfl rfl)
theorem dX11_writePart_89 : decode cX11_writePart 89 = .ok (.sipush 224, 3) := dk_17 0 224 (dk_at dksX11_writePart_3 18 rfl rfl)
theorem dX11_writePart_92 : decode cX11_writePart 92 = .ok (.iadd, 1) := dk_96 (dk_at dksX11_writePart_3 21 rfl rfl)
theorem dX11_writePart_93 : decode cX11_writePart 93 = .ok (.iload 12, 2) := dk_21 12 (dk_at dksX11_writePart_3 22 rfl rfl)
theorem dX11_writePart_95 : decode cX11_writePart 95 = .ok (.invokestatic 154, 3) := dk_184 0 154 (dk_at dksX11_writePart_4 0 rfl rfl)
theorem dX11_writePart_98 : decode cX11_writePart 98 = .ok (.iadd, 1) := dk_96 (dk_at dksX11_writePart_4 3 rfl rfl)
theorem dX11_writePart_99 : decode cX11_writePart 99 = .ok (.aload_n 0, 1) := dk_42 (dk_at dksX11_writePart_4 4 rfl rfl)
theorem dX11_writePart_100 : decode cX11_writePart 100 = .ok (.getfield 133, 3) := dk_180 0 133 (dk_at dksX11_writePart_4 5 rfl rfl)
theorem dX11_writePart_103 : decode cX11_writePart 103 = .ok (.if_icmp .le 5, 3) := dk_164 0 5 (dk_at dksX11_writePart_4 8 rfl rfl)
theorem dX11_writePart_106 : decode cX11_writePart 106 = .ok (.iconst 0, 1) := dk_3 (dk_at dksX11_writePart_4 11 rfl rfl)
theorem dX11_writePart_107 : decode cX11_writePart 107 = .ok (.ireturn, 1) := dk_172 (dk_at dksX11_writePart_4 12 rfl rfl)
theorem dX11_writePart_108 : decode cX11_writePart 108 = .ok (.iconst 0, 1) := dk_3 (dk_at dksX11_writePart_4 13 rfl rfl)
theorem dX11_writePart_109 : decode cX11_writePart 109 = .ok (.istore 14, 2) := dk_54 14 (dk_at dksX11_writePart_4 14 rfl rfl)
theorem dX11_writePart_111 : decode cX11_writePart 111 = .ok (.iload 14, 2) := dk_21 14 (dk_at dksX11_writePart_4 16 rfl rfl)
theorem dX11_writePart_113 : decode cX11_writePart 113 = .ok (.bipush 64, 2) := dk_16 64 (dk_at dksX11_writePart_4 18 rfl rfl)
theorem dX11_writePart_115 : decode cX11_writePart 115 = .ok (.if_icmp .ge 40, 3) := dk_162 0 40 (dk_at dksX11_writePart_4 20 rfl rfl)
theorem dX11_writePart_118 : decode cX11_writePart 118 = .ok (.aload_n 0, 1) := dk_42 (dk_at dksX11_writePart_4 23 rfl rfl)
theorem dX11_writePart_119 : decode cX11_writePart 119 = .ok (.getfield 105, 3) := dk_180 0 105 (dk_at dksX11_writePart_5 0 rfl rfl)
theorem dX11_writePart_122 : decode cX11_writePart 122 = .ok (.iload 14, 2) := dk_21 14 (dk_at dksX11_writePart_5 3 rfl rfl)
theorem dX11_writePart_124 : decode cX11_writePart 124 = .ok (.iload 14, 2) := dk_21 14 (dk_at dksX11_writePart_5 5 rfl rfl)
theorem dX11_writePart_126 : decode cX11_writePart 126 = .ok (.iload 11, 2) := dk_21 11 (dk_at dksX11_writePart_5 7 rfl rfl)
theorem dX11_writePart_128 : decode cX11_writePart 128 = .ok (.if_icmp .ge 19, 3) := dk_162 0 19 (dk_at dksX11_writePart_5 9 rfl rfl)
theorem dX11_writePart_131 : decode cX11_writePart 131 = .ok (.aload_n 0, 1) := dk_42 (dk_at dksX11_writePart_5 12 rfl rfl)
theorem dX11_writePart_132 : decode cX11_writePart 132 = .ok (.getfield 70, 3) := dk_180 0 70 (dk_at dksX11_writePart_5 13 rfl rfl)
theorem dX11_writePart_135 : decode cX11_writePart 135 = .ok (.bipush 64, 2) := dk_16 64 (dk_at dksX11_writePart_5 16 rfl rfl)
theorem dX11_writePart_137 : decode cX11_writePart 137 = .ok (.iload 10, 2) := dk_21 10 (dk_at dksX11_writePart_5 18 rfl rfl)
theorem dX11_writePart_139 : decode cX11_writePart 139 = .ok (.imul, 1) := dk_104 (dk_at dksX11_writePart_5 20 rfl rfl)
theorem dX11_writePart_140 : decode cX11_writePart 140 = .ok (.iload 14, 2) := dk_21 14 (dk_at dksX11_writePart_5 21 rfl rfl)
theorem dX11_writePart_142 : decode cX11_writePart 142 = .ok (.iadd, 1) := dk_96 (dk_at dksX11_writePart_5 23 rfl rfl)
theorem dX11_writePart_143 : decode cX11_writePart 143 = .ok (.baload, 1) := dk_51 (dk_at dksX11_writePart_6 0 rfl rfl)
theorem dX11_writePart_144 : decode cX11_writePart 144 = .ok (.goto 4, 3) := dk_167 0 4 (dk_at dksX11_writePart_6 1 rfl rfl)
theorem dX11_writePart_147 : decode cX11_writePart 147 = .ok (.iconst 0, 1) := dk_3 (dk_at dksX11_writePart_6 4 rfl rfl)
theorem dX11_writePart_148 : decode cX11_writePart 148 = .ok (.bastore, 1) := dk_84 (dk_at dksX11_writePart_6 5 rfl rfl)
theorem dX11_writePart_149 : decode cX11_writePart 149 = .ok (.iinc 14 1, 3) := dk_132 14 1 (dk_at dksX11_writePart_6 6 rfl rfl)
theorem dX11_writePart_152 : decode cX11_writePart 152 = .ok (.goto (-41), 3) := dk_167 255 215 (dk_at dksX11_writePart_6 9 rfl rfl)
theorem dX11_writePart_155 : decode cX11_writePart 155 = .ok (.iconst 0, 1) := dk_3 (dk_at dksX11_writePart_6 12 rfl rfl)
theorem dX11_writePart_156 : decode cX11_writePart 156 = .ok (.istore 14, 2) := dk_54 14 (dk_at dksX11_writePart_6 13 rfl rfl)
theorem dX11_writePart_158 : decode cX11_writePart 158 = .ok (.iload 14, 2) := dk_21 14 (dk_at dksX11_writePart_6 15 rfl rfl)
theorem dX11_writePart_160 : decode cX11_writePart 160 = .ok (.iload_n 3, 1) := dk_29 (dk_at dksX11_writePart_6 17 rfl rfl)
theorem dX11_writePart_161 : decode cX11_writePart 161 = .ok (.if_icmp .ge 71, 3) := dk_162 0 71 (dk_at dksX11_writePart_6 18 rfl rfl)
theorem dX11_writePart_164 : decode cX11_writePart 164 = .ok (.iload 4, 2) := dk_21 4 (dk_at dksX11_writePart_6 21 rfl rfl)
theorem dX11_writePart_166 : decode cX11_writePart 166 = .ok (.iload 14, 2) := dk_21 14 (dk_at dksX11_writePart_7 0 rfl rfl)
theorem dX11_writePart_168 : decode cX11_writePart 168 = .ok (.iadd, 1) := dk_96 (dk_at dksX11_writePart_7 2 rfl rfl)
theorem dX11_writePart_169 : decode cX11_writePart 169 = .ok (.istore 15, 2) := dk_54 15 (dk_at dksX11_writePart_7 3 rfl rfl)
theorem dX11_writePart_171 : decode cX11_writePart 171 = .ok (.aload_n 0, 1) := dk_42 (dk_at dksX11_writePart_7 5 rfl rfl)
theorem dX11_writePart_172 : decode cX11_writePart 172 = .ok (.getfield 105, 3) := dk_180 0 105 (dk_at dksX11_writePart_7 6 rfl rfl)
theorem dX11_writePart_175 : decode cX11_writePart 175 = .ok (.iload 9, 2) := dk_21 9 (dk_at dksX11_writePart_7 9 rfl rfl)
theorem dX11_writePart_177 : decode cX11_writePart 177 = .ok (.iload 14, 2) := dk_21 14 (dk_at dksX11_writePart_7 11 rfl rfl)
theorem dX11_writePart_179 : decode cX11_writePart 179 = .ok (.iadd, 1) := dk_96 (dk_at dksX11_writePart_7 13 rfl rfl)
theorem dX11_writePart_180 : decode cX11_writePart 180 = .ok (.iload 7, 2) := dk_21 7 (dk_at dksX11_writePart_7 14 rfl rfl)
theorem dX11_writePart_182 : decode cX11_writePart 182 = .ok (.iconst 2, 1) := dk_5 (dk_at dksX11_writePart_7 16 rfl rfl)
theorem dX11_writePart_183 : decode cX11_writePart 183 = .ok (.if_icmp .ne 13, 3) := dk_160 0 13 (dk_at dksX11_writePart_7 17 rfl rfl)
theorem dX11_writePart_186 : decode cX11_writePart 186 = .ok (.aload_n 0, 1) := dk_42 (dk_at dksX11_writePart_7 20 rfl rfl)
theorem dX11_writePart_187 : decode cX11_writePart 187 = .ok (.getfield 108, 3) := dk_180 0 108 (dk_at dksX11_writePart_7 21 rfl rfl)
theorem dX11_writePart_190 : decode cX11_writePart 190 = .ok (.iload 15, 2) := dk_21 15 (dk_at dksX11_writePart_8 0 rfl rfl)
theorem dX11_writePart_192 : decode cX11_writePart 192 = .ok (.baload, 1) := dk_51 (dk_at dksX11_writePart_8 2 rfl rfl)
theorem dX11_writePart_193 : decode cX11_writePart 193 = .ok (.goto 32, 3) := dk_167 0 32 (dk_at dksX11_writePart_8 3 rfl rfl)
theorem dX11_writePart_196 : decode cX11_writePart 196 = .ok (.iload 7, 2) := dk_21 7 (dk_at dksX11_writePart_8 6 rfl rfl)
theorem dX11_writePart_198 : decode cX11_writePart 198 = .ok (.iconst 1, 1) := dk_4 (dk_at dksX11_writePart_8 8 rfl rfl)
theorem dX11_writePart_199 : decode cX11_writePart 199 = .ok (.if_icmp .ne 16, 3) := dk_160 0 16 (dk_at dksX11_writePart_8 9 rfl rfl)
theorem dX11_writePart_202 : decode cX11_writePart 202 = .ok (.lload 5, 2) := dk_22 5 (dk_at dksX11_writePart_8 12 rfl rfl)
theorem dX11_writePart_204 : decode cX11_writePart 204 = .ok (.ldc2_w 291, 3) := dk_20 1 35 (dk_at dksX11_writePart_8 14 rfl rfl)
theorem dX11_writePart_207 : decode cX11_writePart 207 = .ok (.iload 15, 2) := dk_21 15 (dk_at dksX11_writePart_8 17 rfl rfl)
theorem dX11_writePart_209 : decode cX11_writePart 209 = .ok (.i2l, 1) := dk_133 (dk_at dksX11_writePart_8 19 rfl rfl)
theorem dX11_writePart_210 : decode cX11_writePart 210 = .ok (.lmul, 1) := dk_105 (dk_at dksX11_writePart_8 20 rfl rfl)
theorem dX11_writePart_211 : decode cX11_writePart 211 = .ok (.ladd, 1) := dk_97 (dk_at dksX11_writePart_8 21 rfl rfl)
theorem dX11_writePart_212 : decode cX11_writePart 212 = .ok (.goto 11, 3) := dk_167 0 11 (dk_at dksX11_writePart_9 0 rfl rfl)
theorem dX11_writePart_215 : decode cX11_writePart 215 = .ok (.lload 5, 2) := dk_22 5 (dk_at dksX11_writePart_9 3 rfl rfl)
theorem dX11_writePart_217 : decode cX11_writePart 217 = .ok (.bipush 8, 2) := dk_16 8 (dk_at dksX11_writePart_9 5 rfl rfl)
theorem dX11_writePart_219 : decode cX11_writePart 219 = .ok (.iload 15, 2) := dk_21 15 (dk_at dksX11_writePart_9 7 rfl rfl)
theorem dX11_writePart_221 : decode cX11_writePart 221 = .ok (.imul, 1) := dk_104 (dk_at dksX11_writePart_9 9 rfl rfl)
theorem dX11_writePart_222 : decode cX11_writePart 222 = .ok (.lshr, 1) := dk_123 (dk_at dksX11_writePart_9 10 rfl rfl)
theorem dX11_writePart_223 : decode cX11_writePart 223 = .ok (.l2i, 1) := dk_136 (dk_at dksX11_writePart_9 11 rfl rfl)
theorem dX11_writePart_224 : decode cX11_writePart 224 = .ok (.i2b, 1) := dk_145 (dk_at dksX11_writePart_9 12 rfl rfl)
theorem dX11_writePart_225 : decode cX11_writePart 225 = .ok (.bastore, 1) := dk_84 (dk_at dksX11_writePart_9 13 rfl rfl)
theorem dX11_writePart_226 : decode cX11_writePart 226 = .ok (.iinc 14 1, 3) := dk_132 14 1 (dk_at dksX11_writePart_9 14 rfl rfl)
theorem dX11_writePart_229 : decode cX11_writePart 229 = .ok (.goto (-71), 3) := dk_167 255 185 (dk_at dksX11_writePart_9 17 rfl rfl)
theorem dX11_writePart_232 : decode cX11_writePart 232 = .ok (.aload_n 0, 1) := dk_42 (dk_at dksX11_writePart_9 20 rfl rfl)
theorem dX11_writePart_233 : decode cX11_writePart 233 = .ok (.getfield 29, 3) := dk_180 0 29 (dk_at dksX11_writePart_9 21 rfl rfl)
theorem dX11_writePart_236 : decode cX11_writePart 236 = .ok (.aload_n 0, 1) := dk_42 (dk_at dksX11_writePart_10 0 rfl rfl)
theorem dX11_writePart_237 : decode cX11_writePart 237 = .ok (.iconst 0, 1) := dk_3 (dk_at dksX11_writePart_10 1 rfl rfl)
theorem dX11_writePart_238 : decode cX11_writePart 238 = .ok (.iload_n 1, 1) := dk_27 (dk_at dksX11_writePart_10 2 rfl rfl)
theorem dX11_writePart_239 : decode cX11_writePart 239 = .ok (.invokevirtual 143, 3) := dk_182 0 143 (dk_at dksX11_writePart_10 3 rfl rfl)
theorem dX11_writePart_242 : decode cX11_writePart 242 = .ok (.iaload, 1) := dk_46 (dk_at dksX11_writePart_10 6 rfl rfl)
theorem dX11_writePart_243 : decode cX11_writePart 243 = .ok (.istore 14, 2) := dk_54 14 (dk_at dksX11_writePart_10 7 rfl rfl)
theorem dX11_writePart_245 : decode cX11_writePart 245 = .ok (.aload_n 0, 1) := dk_42 (dk_at dksX11_writePart_10 9 rfl rfl)
theorem dX11_writePart_246 : decode cX11_writePart 246 = .ok (.bipush 6, 2) := dk_16 6 (dk_at dksX11_writePart_10 10 rfl rfl)
theorem dX11_writePart_248 : decode cX11_writePart 248 = .ok (.iload_n 1, 1) := dk_27 (dk_at dksX11_writePart_10 12 rfl rfl)
theorem dX11_writePart_249 : decode cX11_writePart 249 = .ok (.iload 8, 2) := dk_21 8 (dk_at dksX11_writePart_10 13 rfl rfl)
theorem dX11_writePart_251 : decode cX11_writePart 251 = .ok (.invokevirtual 223, 3) := dk_182 0 223 (dk_at dksX11_writePart_10 15 rfl rfl)
theorem dX11_writePart_254 : decode cX11_writePart 254 = .ok (.istore 15, 2) := dk_54 15 (dk_at dksX11_writePart_10 18 rfl rfl)
theorem dX11_writePart_256 : decode cX11_writePart 256 = .ok (.aload_n 0, 1) := dk_42 (dk_at dksX11_writePart_10 20 rfl rfl)
theorem dX11_writePart_257 : decode cX11_writePart 257 = .ok (.getfield 86, 3) := dk_180 0 86 (dk_at dksX11_writePart_10 21 rfl rfl)
theorem dX11_writePart_260 : decode cX11_writePart 260 = .ok (.iload 15, 2) := dk_21 15 (dk_at dksX11_writePart_11 0 rfl rfl)
theorem dX11_writePart_262 : decode cX11_writePart 262 = .ok (.iload 12, 2) := dk_21 12 (dk_at dksX11_writePart_11 2 rfl rfl)
theorem dX11_writePart_264 : decode cX11_writePart 264 = .ok (.iastore, 1) := dk_79 (dk_at dksX11_writePart_11 4 rfl rfl)
theorem dX11_writePart_265 : decode cX11_writePart 265 = .ok (.aload_n 0, 1) := dk_42 (dk_at dksX11_writePart_11 5 rfl rfl)
theorem dX11_writePart_266 : decode cX11_writePart 266 = .ok (.getfield 89, 3) := dk_180 0 89 (dk_at dksX11_writePart_11 6 rfl rfl)
theorem dX11_writePart_269 : decode cX11_writePart 269 = .ok (.iload 15, 2) := dk_21 15 (dk_at dksX11_writePart_11 9 rfl rfl)
theorem dX11_writePart_271 : decode cX11_writePart 271 = .ok (.iload_n 2, 1) := dk_28 (dk_at dksX11_writePart_11 11 rfl rfl)
theorem dX11_writePart_272 : decode cX11_writePart 272 = .ok (.iload_n 3, 1) := dk_29 (dk_at dksX11_writePart_11 12 rfl rfl)
theorem dX11_writePart_273 : decode cX11_writePart 273 = .ok (.iadd, 1) := dk_96 (dk_at dksX11_writePart_11 13 rfl rfl)
theorem dX11_writePart_274 : decode cX11_writePart 274 = .ok (.iload 14, 2) := dk_21 14 (dk_at dksX11_writePart_11 14 rfl rfl)
theorem dX11_writePart_276 : decode cX11_writePart 276 = .ok (.if_icmp .le 9, 3) := dk_164 0 9 (dk_at dksX11_writePart_11 16 rfl rfl)
theorem dX11_writePart_279 : decode cX11_writePart 279 = .ok (.iload_n 2, 1) := dk_28 (dk_at dksX11_writePart_11 19 rfl rfl)
theorem dX11_writePart_280 : decode cX11_writePart 280 = .ok (.iload_n 3, 1) := dk_29 (dk_at dksX11_writePart_11 20 rfl rfl)
theorem dX11_writePart_281 : decode cX11_writePart 281 = .ok (.iadd, 1) := dk_96 (dk_at dksX11_writePart_11 21 rfl rfl)
theorem dX11_writePart_282 : decode cX11_writePart 282 = .ok (.goto 5, 3) := dk_167 0 5 (dk_at dksX11_writePart_12 0 rfl rfl)
theorem dX11_writePart_285 : decode cX11_writePart 285 = .ok (.iload 14, 2) := dk_21 14 (dk_at dksX11_writePart_12 3 rfl rfl)
theorem dX11_writePart_287 : decode cX11_writePart 287 = .ok (.iastore, 1) := dk_79 (dk_at dksX11_writePart_12 5 rfl rfl)
theorem dX11_writePart_288 : decode cX11_writePart 288 = .ok (.iconst 0, 1) := dk_3 (dk_at dksX11_writePart_12 6 rfl rfl)
theorem dX11_writePart_289 : decode cX11_writePart 289 = .ok (.istore 16, 2) := dk_54 16 (dk_at dksX11_writePart_12 7 rfl rfl)
theorem dX11_writePart_291 : decode cX11_writePart 291 = .ok (.iload 16, 2) := dk_21 16 (dk_at dksX11_writePart_12 9 rfl rfl)
theorem dX11_writePart_293 : decode cX11_writePart 293 = .ok (.bipush 64, 2) := dk_16 64 (dk_at dksX11_writePart_12 11 rfl rfl)
theorem dX11_writePart_295 : decode cX11_writePart 295 = .ok (.if_icmp .ge 29, 3) := dk_162 0 29 (dk_at dksX11_writePart_12 13 rfl rfl)
theorem dX11_writePart_298 : decode cX11_writePart 298 = .ok (.aload_n 0, 1) := dk_42 (dk_at dksX11_writePart_12 16 rfl rfl)
theorem dX11_writePart_299 : decode cX11_writePart 299 = .ok (.getfield 102, 3) := dk_180 0 102 (dk_at dksX11_writePart_12 17 rfl rfl)
theorem dX11_writePart_302 : decode cX11_writePart 302 = .ok (.bipush 64, 2) := dk_16 64 (dk_at dksX11_writePart_12 20 rfl rfl)
theorem dX11_writePart_304 : decode cX11_writePart 304 = .ok (.iload 15, 2) := dk_21 15 (dk_at dksX11_writePart_12 22 rfl rfl)
theorem dX11_writePart_306 : decode cX11_writePart 306 = .ok (.imul, 1) := dk_104 (dk_at dksX11_writePart_13 0 rfl rfl)
theorem dX11_writePart_307 : decode cX11_writePart 307 = .ok (.iload 16, 2) := dk_21 16 (dk_at dksX11_writePart_13 1 rfl rfl)
theorem dX11_writePart_309 : decode cX11_writePart 309 = .ok (.iadd, 1) := dk_96 (dk_at dksX11_writePart_13 3 rfl rfl)
theorem dX11_writePart_310 : decode cX11_writePart 310 = .ok (.aload_n 0, 1) := dk_42 (dk_at dksX11_writePart_13 4 rfl rfl)
theorem dX11_writePart_311 : decode cX11_writePart 311 = .ok (.getfield 105, 3) := dk_180 0 105 (dk_at dksX11_writePart_13 5 rfl rfl)
theorem dX11_writePart_314 : decode cX11_writePart 314 = .ok (.iload 16, 2) := dk_21 16 (dk_at dksX11_writePart_13 8 rfl rfl)
theorem dX11_writePart_316 : decode cX11_writePart 316 = .ok (.baload, 1) := dk_51 (dk_at dksX11_writePart_13 10 rfl rfl)
theorem dX11_writePart_317 : decode cX11_writePart 317 = .ok (.bastore, 1) := dk_84 (dk_at dksX11_writePart_13 11 rfl rfl)
theorem dX11_writePart_318 : decode cX11_writePart 318 = .ok (.iinc 16 1, 3) := dk_132 16 1 (dk_at dksX11_writePart_13 12 rfl rfl)
theorem dX11_writePart_321 : decode cX11_writePart 321 = .ok (.goto (-30), 3) := dk_167 255 226 (dk_at dksX11_writePart_13 15 rfl rfl)
theorem dX11_writePart_324 : decode cX11_writePart 324 = .ok (.aload_n 0, 1) := dk_42 (dk_at dksX11_writePart_13 18 rfl rfl)
theorem dX11_writePart_325 : decode cX11_writePart 325 = .ok (.bipush 80, 2) := dk_16 80 (dk_at dksX11_writePart_13 19 rfl rfl)
theorem dX11_writePart_327 : decode cX11_writePart 327 = .ok (.iload 12, 2) := dk_21 12 (dk_at dksX11_writePart_13 21 rfl rfl)
theorem dX11_writePart_329 : decode cX11_writePart 329 = .ok (.invokestatic 154, 3) := dk_184 0 154 (dk_at dksX11_writePart_14 0 rfl rfl)
theorem dX11_writePart_332 : decode cX11_writePart 332 = .ok (.iadd, 1) := dk_96 (dk_at dksX11_writePart_14 3 rfl rfl)
theorem dX11_writePart_333 : decode cX11_writePart 333 = .ok (.invokevirtual 226, 3) := dk_182 0 226 (dk_at dksX11_writePart_14 4 rfl rfl)
theorem dX11_writePart_336 : decode cX11_writePart 336 = .ok (.iconst 1, 1) := dk_4 (dk_at dksX11_writePart_14 7 rfl rfl)
theorem dX11_writePart_337 : decode cX11_writePart 337 = .ok (.ireturn, 1) := dk_172 (dk_at dksX11_writePart_14 8 rfl rfl)
abbrev cX11_fill : ByteArray := prog_12_method_71_code
def yX11_fill : MethodName := ⟨RX11, "fill", "(IIII)I"⟩
def dkwX11_fill_2 : List UInt8 := [28, 29, 21, 4, 133, 4, 182, 1, 41, 172]
abbrev dktX11_fill_2 : List UInt8 := dkwX11_fill_2 ++ []
def dkwX11_fill_1 : List UInt8 := [17, 8, 0, 163, 0, 16, 28, 155, 0, 12, 28, 17, 64, 0, 29, 100, 164, 0, 6, 16, 253, 172, 42, 27]
abbrev dktX11_fill_1 : List UInt8 := dkwX11_fill_1 ++ dktX11_fill_2
def dkwX11_fill_0 : List UInt8 := [42, 180, 0, 7, 154, 0, 6, 16, 254, 172, 42, 27, 182, 1, 32, 153, 0, 28, 29, 4, 161, 0, 23, 29]
abbrev dktX11_fill_0 : List UInt8 := dkwX11_fill_0 ++ dktX11_fill_1
theorem dksX11_fill_0 : cX11_fill.data.toList.drop 0 = dktX11_fill_0 := by decide +kernel
theorem dksX11_fill_1 : cX11_fill.data.toList.drop 24 = dktX11_fill_1 := dk_seg dksX11_fill_0 24 rfl rfl
theorem dksX11_fill_2 : cX11_fill.data.toList.drop 48 = dktX11_fill_2 := dk_seg dksX11_fill_1 24 rfl rfl
theorem dX11_fill_0 : decode cX11_fill 0 = .ok (.aload_n 0, 1) := dk_42 (dk_at dksX11_fill_0 0 rfl rfl)
theorem dX11_fill_1 : decode cX11_fill 1 = .ok (.getfield 7, 3) := dk_180 0 7 (dk_at dksX11_fill_0 1 rfl rfl)
theorem dX11_fill_4 : decode cX11_fill 4 = .ok (.ifCond .ne 6, 3) := dk_154 0 6 (dk_at dksX11_fill_0 4 rfl rfl)
theorem dX11_fill_7 : decode cX11_fill 7 = .ok (.bipush (-2), 2) := dk_16 254 (dk_at dksX11_fill_0 7 rfl rfl)
theorem dX11_fill_9 : decode cX11_fill 9 = .ok (.ireturn, 1) := dk_172 (dk_at dksX11_fill_0 9 rfl rfl)
theorem dX11_fill_10 : decode cX11_fill 10 = .ok (.aload_n 0, 1) := dk_42 (dk_at dksX11_fill_0 10 rfl rfl)
theorem dX11_fill_11 : decode cX11_fill 11 = .ok (.iload_n 1, 1) := dk_27 (dk_at dksX11_fill_0 11 rfl rfl)
theorem dX11_fill_12 : decode cX11_fill 12 = .ok (.invokevirtual 288, 3) := dk_182 1 32 (dk_at dksX11_fill_0 12 rfl rfl)
theorem dX11_fill_15 : decode cX11_fill 15 = .ok (.ifCond .eq 28, 3) := dk_153 0 28 (dk_at dksX11_fill_0 15 rfl rfl)
theorem dX11_fill_18 : decode cX11_fill 18 = .ok (.iload_n 3, 1) := dk_29 (dk_at dksX11_fill_0 18 rfl rfl)
theorem dX11_fill_19 : decode cX11_fill 19 = .ok (.iconst 1, 1) := dk_4 (dk_at dksX11_fill_0 19 rfl rfl)
theorem dX11_fill_20 : decode cX11_fill 20 = .ok (.if_icmp .lt 23, 3) := dk_161 0 23 (dk_at dksX11_fill_0 20 rfl rfl)
theorem dX11_fill_23 : decode cX11_fill 23 = .ok (.iload_n 3, 1) := dk_29 (dk_at dksX11_fill_0 23 rfl rfl)
theorem dX11_fill_24 : decode cX11_fill 24 = .ok (.sipush 2048, 3) := dk_17 8 0 (dk_at dksX11_fill_1 0 rfl rfl)
theorem dX11_fill_27 : decode cX11_fill 27 = .ok (.if_icmp .gt 16, 3) := dk_163 0 16 (dk_at dksX11_fill_1 3 rfl rfl)
theorem dX11_fill_30 : decode cX11_fill 30 = .ok (.iload_n 2, 1) := dk_28 (dk_at dksX11_fill_1 6 rfl rfl)
theorem dX11_fill_31 : decode cX11_fill 31 = .ok (.ifCond .lt 12, 3) := dk_155 0 12 (dk_at dksX11_fill_1 7 rfl rfl)
theorem dX11_fill_34 : decode cX11_fill 34 = .ok (.iload_n 2, 1) := dk_28 (dk_at dksX11_fill_1 10 rfl rfl)
theorem dX11_fill_35 : decode cX11_fill 35 = .ok (.sipush 16384, 3) := dk_17 64 0 (dk_at dksX11_fill_1 11 rfl rfl)
theorem dX11_fill_38 : decode cX11_fill 38 = .ok (.iload_n 3, 1) := dk_29 (dk_at dksX11_fill_1 14 rfl rfl)
theorem dX11_fill_39 : decode cX11_fill 39 = .ok (.isub, 1) := dk_100 (dk_at dksX11_fill_1 15 rfl rfl)
theorem dX11_fill_40 : decode cX11_fill 40 = .ok (.if_icmp .le 6, 3) := dk_164 0 6 (dk_at dksX11_fill_1 16 rfl rfl)
theorem dX11_fill_43 : decode cX11_fill 43 = .ok (.bipush (-3), 2) := dk_16 253 (dk_at dksX11_fill_1 19 rfl rfl)
theorem dX11_fill_45 : decode cX11_fill 45 = .ok (.ireturn, 1) := dk_172 (dk_at dksX11_fill_1 21 rfl rfl)
theorem dX11_fill_46 : decode cX11_fill 46 = .ok (.aload_n 0, 1) := dk_42 (dk_at dksX11_fill_1 22 rfl rfl)
theorem dX11_fill_47 : decode cX11_fill 47 = .ok (.iload_n 1, 1) := dk_27 (dk_at dksX11_fill_1 23 rfl rfl)
theorem dX11_fill_48 : decode cX11_fill 48 = .ok (.iload_n 2, 1) := dk_28 (dk_at dksX11_fill_2 0 rfl rfl)
theorem dX11_fill_49 : decode cX11_fill 49 = .ok (.iload_n 3, 1) := dk_29 (dk_at dksX11_fill_2 1 rfl rfl)
theorem dX11_fill_50 : decode cX11_fill 50 = .ok (.iload 4, 2) := dk_21 4 (dk_at dksX11_fill_2 2 rfl rfl)
theorem dX11_fill_52 : decode cX11_fill 52 = .ok (.i2l, 1) := dk_133 (dk_at dksX11_fill_2 4 rfl rfl)
theorem dX11_fill_53 : decode cX11_fill 53 = .ok (.iconst 1, 1) := dk_4 (dk_at dksX11_fill_2 5 rfl rfl)
theorem dX11_fill_54 : decode cX11_fill 54 = .ok (.invokevirtual 297, 3) := dk_182 1 41 (dk_at dksX11_fill_2 6 rfl rfl)
theorem dX11_fill_57 : decode cX11_fill 57 = .ok (.ireturn, 1) := dk_172 (dk_at dksX11_fill_2 9 rfl rfl)
abbrev cX11_copy : ByteArray := prog_12_method_72_code
def yX11_copy : MethodName := ⟨RX11, "copy", "(IIIII)I"⟩
def dkwX11_copy_6 : List UInt8 := [162, 0, 7, 3, 167, 0, 14, 42, 29, 21, 4, 21, 7, 9, 5, 182, 1, 41, 172]
abbrev dktX11_copy_6 : List UInt8 := dkwX11_copy_6 ++ []
def dkwX11_copy_5 : List UInt8 := [42, 180, 0, 13, 27, 46, 28, 21, 8, 96, 182, 0, 251, 145, 84, 132, 8, 1, 167, 255, 224, 21, 7, 4]
abbrev dktX11_copy_5 : List UInt8 := dkwX11_copy_5 ++ dktX11_copy_6
def dkwX11_copy_4 : List UInt8 := [167, 0, 5, 21, 5, 54, 7, 3, 54, 8, 21, 8, 21, 7, 162, 0, 31, 42, 180, 0, 108, 21, 8, 42]
abbrev dktX11_copy_4 : List UInt8 := dkwX11_copy_4 ++ dktX11_copy_5
def dkwX11_copy_3 : List UInt8 := [180, 0, 13, 27, 46, 182, 0, 143, 46, 28, 100, 54, 6, 21, 6, 21, 5, 162, 0, 8, 21, 6]
abbrev dktX11_copy_3 : List UInt8 := dkwX11_copy_3 ++ dktX11_copy_4
def dkwX11_copy_2 : List UInt8 := [155, 0, 14, 21, 4, 17, 64, 0, 21, 5, 100, 164, 0, 6, 16, 253, 172, 42, 180, 0, 29, 42, 3, 42]
abbrev dktX11_copy_2 : List UInt8 := dkwX11_copy_2 ++ dktX11_copy_3
def dkwX11_copy_1 : List UInt8 := [153, 0, 37, 21, 5, 4, 161, 0, 31, 21, 5, 17, 8, 0, 163, 0, 23, 28, 155, 0, 19, 21, 4]
abbrev dktX11_copy_1 : List UInt8 := dkwX11_copy_1 ++ dktX11_copy_2
def dkwX11_copy_0 : List UInt8 := [42, 180, 0, 7, 154, 0, 6, 16, 254, 172, 42, 27, 182, 1, 32, 153, 0, 45, 42, 29, 182, 1, 32]
abbrev dktX11_copy_0 : List UInt8 := dkwX11_copy_0 ++ dktX11_copy_1
theorem dksX11_copy_0 : cX11_copy.data.toList.drop 0 = dktX11_copy_0 := by decide +kernel
theorem dksX11_copy_1 : cX11_copy.data.toList.drop 23 = dktX11_copy_1 := dk_seg dksX11_copy_0 23 rfl rfl
theorem dksX11_copy_2 : cX11_copy.data.toList.drop 46 = dktX11_copy_2 := dk_seg dksX11_copy_1 23 rfl rfl
theorem dksX11_copy_3 : cX11_copy.data.toList.drop 70 = dktX11_copy_3 := dk_seg dksX11_copy_2 24 rfl rfl
theorem dksX11_copy_4 : cX11_copy.data.toList.drop 92 = dktX11_copy_4 := dk_seg dksX11_copy_3 22 rfl rfl
theorem dksX11_copy_5 : cX11_copy.data.toList.drop 116 = dktX11_copy_5 := dk_seg dksX11_copy_4 24 rfl rfl
theorem dksX11_copy_6 : cX11_copy.data.toList.drop 140 = dktX11_copy_6 := dk_seg dksX11_copy_5 24 rfl rfl
theorem dX11_copy_0 : decode cX11_copy 0 = .ok (.aload_n 0, 1) := dk_42 (dk_at dksX11_copy_0 0 rfl rfl)
theorem dX11_copy_1 : decode cX11_copy 1 = .ok (.getfield 7, 3) := dk_180 0 7 (dk_at dksX11_copy_0 1 rfl rfl)
theorem dX11_copy_4 : decode cX11_copy 4 = .ok (.ifCond .ne 6, 3) := dk_154 0 6 (dk_at dksX11_copy_0 4 rfl rfl)
theorem dX11_copy_7 : decode cX11_copy 7 = .ok (.bipush (-2), 2) := dk_16 254 (dk_at dksX11_copy_0 7 rfl rfl)
theorem dX11_copy_9 : decode cX11_copy 9 = .ok (.ireturn, 1) := dk_172 (dk_at dksX11_copy_0 9 rfl rfl)
theorem dX11_copy_10 : decode cX11_copy 10 = .ok (.aload_n 0, 1) := dk_42 (dk_at dksX11_copy_0 10 rfl rfl)
theorem dX11_copy_11 : decode cX11_copy 11 = .ok (.iload_n 1, 1) := dk_27 (dk_at dksX11_copy_0 11 rfl rfl)
theorem dX11_copy_12 : decode cX11_copy 12 = .ok (.invokevirtual 288, 3) := dk_182 1 32 (dk_at dksX11_copy_0 12 rfl rfl)
theorem dX11_copy_15 : decode cX11_copy 15 = .ok (.ifCond .eq 45, 3) := dk_153 0 45 (dk_at dksX11_copy_0 15 rfl rfl)
theorem dX11_copy_18 : decode cX11_copy 18 = .ok (.aload_n 0, 1) := dk_42 (dk_at dksX11_copy_0 18 rfl rfl)
theorem dX11_copy_19 : decode cX11_copy 19 = .ok (.iload_n 3, 1) := dk_29 (dk_at dksX11_copy_0 19 rfl rfl)
theorem dX11_copy_20 : decode cX11_copy 20 = .ok (.invokevirtual 288, 3) := dk_182 1 32 (dk_at dksX11_copy_0 20 rfl rfl)
theorem dX11_copy_23 : decode cX11_copy 23 = .ok (.ifCond .eq 37, 3) := dk_153 0 37 (dk_at dksX11_copy_1 0 rfl rfl)
theorem dX11_copy_26 : decode cX11_copy 26 = .ok (.iload 5, 2) := dk_21 5 (dk_at dksX11_copy_1 3 rfl rfl)
theorem dX11_copy_28 : decode cX11_copy 28 = .ok (.iconst 1, 1) := dk_4 (dk_at dksX11_copy_1 5 rfl rfl)
theorem dX11_copy_29 : decode cX11_copy 29 = .ok (.if_icmp .lt 31, 3) := dk_161 0 31 (dk_at dksX11_copy_1 6 rfl rfl)
theorem dX11_copy_32 : decode cX11_copy 32 = .ok (.iload 5, 2) := dk_21 5 (dk_at dksX11_copy_1 9 rfl rfl)
theorem dX11_copy_34 : decode cX11_copy 34 = .ok (.sipush 2048, 3) := dk_17 8 0 (dk_at dksX11_copy_1 11 rfl rfl)
theorem dX11_copy_37 : decode cX11_copy 37 = .ok (.if_icmp .gt 23, 3) := dk_163 0 23 (dk_at dksX11_copy_1 14 rfl rfl)
theorem dX11_copy_40 : decode cX11_copy 40 = .ok (.iload_n 2, 1) := dk_28 (dk_at dksX11_copy_1 17 rfl rfl)
theorem dX11_copy_41 : decode cX11_copy 41 = .ok (.ifCond .lt 19, 3) := dk_155 0 19 (dk_at dksX11_copy_1 18 rfl rfl)
theorem dX11_copy_44 : decode cX11_copy 44 = .ok (.iload 4, 2) := dk_21 4 (dk_at dksX11_copy_1 21 rfl rfl)
theorem dX11_copy_46 : decode cX11_copy 46 = .ok (.ifCond .lt 14, 3) := dk_155 0 14 (dk_at dksX11_copy_2 0 rfl rfl)
theorem dX11_copy_49 : decode cX11_copy 49 = .ok (.iload 4, 2) := dk_21 4 (dk_at dksX11_copy_2 3 rfl rfl)
theorem dX11_copy_51 : decode cX11_copy 51 = .ok (.sipush 16384, 3) := dk_17 64 0 (dk_at dksX11_copy_2 5 rfl rfl)
theorem dX11_copy_54 : decode cX11_copy 54 = .ok (.iload 5, 2) := dk_21 5 (dk_at dksX11_copy_2 8 rfl rfl)
theorem dX11_copy_56 : decode cX11_copy 56 = .ok (.isub, 1) := dk_100 (dk_at dksX11_copy_2 10 rfl rfl)
theorem dX11_copy_57 : decode cX11_copy 57 = .ok (.if_icmp .le 6, 3) := dk_164 0 6 (dk_at dksX11_copy_2 11 rfl rfl)
theorem dX11_copy_60 : decode cX11_copy 60 = .ok (.bipush (-3), 2) := dk_16 253 (dk_at dksX11_copy_2 14 rfl rfl)
theorem dX11_copy_62 : decode cX11_copy 62 = .ok (.ireturn, 1) := dk_172 (dk_at dksX11_copy_2 16 rfl rfl)
theorem dX11_copy_63 : decode cX11_copy 63 = .ok (.aload_n 0, 1) := dk_42 (dk_at dksX11_copy_2 17 rfl rfl)
theorem dX11_copy_64 : decode cX11_copy 64 = .ok (.getfield 29, 3) := dk_180 0 29 (dk_at dksX11_copy_2 18 rfl rfl)
theorem dX11_copy_67 : decode cX11_copy 67 = .ok (.aload_n 0, 1) := dk_42 (dk_at dksX11_copy_2 21 rfl rfl)
theorem dX11_copy_68 : decode cX11_copy 68 = .ok (.iconst 0, 1) := dk_3 (dk_at dksX11_copy_2 22 rfl rfl)
theorem dX11_copy_69 : decode cX11_copy 69 = .ok (.aload_n 0, 1) := dk_42 (dk_at dksX11_copy_2 23 rfl rfl)
theorem dX11_copy_70 : decode cX11_copy 70 = .ok (.getfield 13, 3) := dk_180 0 13 (dk_at dksX11_copy_3 0 rfl rfl)
theorem dX11_copy_73 : decode cX11_copy 73 = .ok (.iload_n 1, 1) := dk_27 (dk_at dksX11_copy_3 3 rfl rfl)
theorem dX11_copy_74 : decode cX11_copy 74 = .ok (.iaload, 1) := dk_46 (dk_at dksX11_copy_3 4 rfl rfl)
theorem dX11_copy_75 : decode cX11_copy 75 = .ok (.invokevirtual 143, 3) := dk_182 0 143 (dk_at dksX11_copy_3 5 rfl rfl)
theorem dX11_copy_78 : decode cX11_copy 78 = .ok (.iaload, 1) := dk_46 (dk_at dksX11_copy_3 8 rfl rfl)
theorem dX11_copy_79 : decode cX11_copy 79 = .ok (.iload_n 2, 1) := dk_28 (dk_at dksX11_copy_3 9 rfl rfl)
theorem dX11_copy_80 : decode cX11_copy 80 = .ok (.isub, 1) := dk_100 (dk_at dksX11_copy_3 10 rfl rfl)
theorem dX11_copy_81 : decode cX11_copy 81 = .ok (.istore 6, 2) := dk_54 6 (dk_at dksX11_copy_3 11 rfl rfl)
theorem dX11_copy_83 : decode cX11_copy 83 = .ok (.iload 6, 2) := dk_21 6 (dk_at dksX11_copy_3 13 rfl rfl)
theorem dX11_copy_85 : decode cX11_copy 85 = .ok (.iload 5, 2) := dk_21 5 (dk_at dksX11_copy_3 15 rfl rfl)
theorem dX11_copy_87 : decode cX11_copy 87 = .ok (.if_icmp .ge 8, 3) := dk_162 0 8 (dk_at dksX11_copy_3 17 rfl rfl)
theorem dX11_copy_90 : decode cX11_copy 90 = .ok (.iload 6, 2) := dk_21 6 (dk_at dksX11_copy_3 20 rfl rfl)
theorem dX11_copy_92 : decode cX11_copy 92 = .ok (.goto 5, 3) := dk_167 0 5 (dk_at dksX11_copy_4 0 rfl rfl)
theorem dX11_copy_95 : decode cX11_copy 95 = .ok (.iload 5, 2) := dk_21 5 (dk_at dksX11_copy_4 3 rfl rfl)
theorem dX11_copy_97 : decode cX11_copy 97 = .ok (.istore 7, 2) := dk_54 7 (dk_at dksX11_copy_4 5 rfl rfl)
theorem dX11_copy_99 : decode cX11_copy 99 = .ok (.iconst 0, 1) := dk_3 (dk_at dksX11_copy_4 7 rfl rfl)
theorem dX11_copy_100 : decode cX11_copy 100 = .ok (.istore 8, 2) := dk_54 8 (dk_at dksX11_copy_4 8 rfl rfl)
theorem dX11_copy_102 : decode cX11_copy 102 = .ok (.iload 8, 2) := dk_21 8 (dk_at dksX11_copy_4 10 rfl rfl)
theorem dX11_copy_104 : decode cX11_copy 104 = .ok (.iload 7, 2) := dk_21 7 (dk_at dksX11_copy_4 12 rfl rfl)
theorem dX11_copy_106 : decode cX11_copy 106 = .ok (.if_icmp .ge 31, 3) := dk_162 0 31 (dk_at dksX11_copy_4 14 rfl rfl)
theorem dX11_copy_109 : decode cX11_copy 109 = .ok (.aload_n 0, 1) := dk_42 (dk_at dksX11_copy_4 17 rfl rfl)
theorem dX11_copy_110 : decode cX11_copy 110 = .ok (.getfield 108, 3) := dk_180 0 108 (dk_at dksX11_copy_4 18 rfl rfl)
theorem dX11_copy_113 : decode cX11_copy 113 = .ok (.iload 8, 2) := dk_21 8 (dk_at dksX11_copy_4 21 rfl rfl)
theorem dX11_copy_115 : decode cX11_copy 115 = .ok (.aload_n 0, 1) := dk_42 (dk_at dksX11_copy_4 23 rfl rfl)
theorem dX11_copy_116 : decode cX11_copy 116 = .ok (.aload_n 0, 1) := dk_42 (dk_at dksX11_copy_5 0 rfl rfl)
theorem dX11_copy_117 : decode cX11_copy 117 = .ok (.getfield 13, 3) := dk_180 0 13 (dk_at dksX11_copy_5 1 rfl rfl)
theorem dX11_copy_120 : decode cX11_copy 120 = .ok (.iload_n 1, 1) := dk_27 (dk_at dksX11_copy_5 4 rfl rfl)
theorem dX11_copy_121 : decode cX11_copy 121 = .ok (.iaload, 1) := dk_46 (dk_at dksX11_copy_5 5 rfl rfl)
theorem dX11_copy_122 : decode cX11_copy 122 = .ok (.iload_n 2, 1) := dk_28 (dk_at dksX11_copy_5 6 rfl rfl)
theorem dX11_copy_123 : decode cX11_copy 123 = .ok (.iload 8, 2) := dk_21 8 (dk_at dksX11_copy_5 7 rfl rfl)
theorem dX11_copy_125 : decode cX11_copy 125 = .ok (.iadd, 1) := dk_96 (dk_at dksX11_copy_5 9 rfl rfl)
theorem dX11_copy_126 : decode cX11_copy 126 = .ok (.invokevirtual 251, 3) := dk_182 0 251 (dk_at dksX11_copy_5 10 rfl rfl)
theorem dX11_copy_129 : decode cX11_copy 129 = .ok (.i2b, 1) := dk_145 (dk_at dksX11_copy_5 13 rfl rfl)
theorem dX11_copy_130 : decode cX11_copy 130 = .ok (.bastore, 1) := dk_84 (dk_at dksX11_copy_5 14 rfl rfl)
theorem dX11_copy_131 : decode cX11_copy 131 = .ok (.iinc 8 1, 3) := dk_132 8 1 (dk_at dksX11_copy_5 15 rfl rfl)
theorem dX11_copy_134 : decode cX11_copy 134 = .ok (.goto (-32), 3) := dk_167 255 224 (dk_at dksX11_copy_5 18 rfl rfl)
theorem dX11_copy_137 : decode cX11_copy 137 = .ok (.iload 7, 2) := dk_21 7 (dk_at dksX11_copy_5 21 rfl rfl)
theorem dX11_copy_139 : decode cX11_copy 139 = .ok (.iconst 1, 1) := dk_4 (dk_at dksX11_copy_5 23 rfl rfl)
theorem dX11_copy_140 : decode cX11_copy 140 = .ok (.if_icmp .ge 7, 3) := dk_162 0 7 (dk_at dksX11_copy_6 0 rfl rfl)
theorem dX11_copy_143 : decode cX11_copy 143 = .ok (.iconst 0, 1) := dk_3 (dk_at dksX11_copy_6 3 rfl rfl)
theorem dX11_copy_144 : decode cX11_copy 144 = .ok (.goto 14, 3) := dk_167 0 14 (dk_at dksX11_copy_6 4 rfl rfl)
theorem dX11_copy_147 : decode cX11_copy 147 = .ok (.aload_n 0, 1) := dk_42 (dk_at dksX11_copy_6 7 rfl rfl)
theorem dX11_copy_148 : decode cX11_copy 148 = .ok (.iload_n 3, 1) := dk_29 (dk_at dksX11_copy_6 8 rfl rfl)
theorem dX11_copy_149 : decode cX11_copy 149 = .ok (.iload 4, 2) := dk_21 4 (dk_at dksX11_copy_6 9 rfl rfl)
theorem dX11_copy_151 : decode cX11_copy 151 = .ok (.iload 7, 2) := dk_21 7 (dk_at dksX11_copy_6 11 rfl rfl)
theorem dX11_copy_153 : decode cX11_copy 153 = .ok (.lconst 0, 1) := dk_9 (dk_at dksX11_copy_6 13 rfl rfl)
theorem dX11_copy_154 : decode cX11_copy 154 = .ok (.iconst 2, 1) := dk_5 (dk_at dksX11_copy_6 14 rfl rfl)
theorem dX11_copy_155 : decode cX11_copy 155 = .ok (.invokevirtual 297, 3) := dk_182 1 41 (dk_at dksX11_copy_6 15 rfl rfl)
theorem dX11_copy_158 : decode cX11_copy 158 = .ok (.ireturn, 1) := dk_172 (dk_at dksX11_copy_6 18 rfl rfl)
abbrev cX11_resize : ByteArray := prog_12_method_73_code
def yX11_resize : MethodName := ⟨RX11, "resize", "(II)I"⟩
def dkwX11_resize_6 : List UInt8 := [3, 96, 96, 54, 5, 42, 16, 7, 29, 28, 182, 0, 223, 87, 42, 21, 5, 182, 0, 226, 21, 4, 172]
abbrev dktX11_resize_6 : List UInt8 := dkwX11_resize_6 ++ []
def dkwX11_resize_5 : List UInt8 := [54, 7, 21, 5, 16, 40, 21, 7, 153, 0, 16, 16, 32, 28, 16, 64, 112, 184, 0, 154, 96, 167, 0, 4]
abbrev dktX11_resize_5 : List UInt8 := dkwX11_resize_5 ++ dktX11_resize_6
def dkwX11_resize_4 : List UInt8 := [112, 158, 0, 21, 42, 180, 0, 66, 21, 6, 46, 28, 16, 64, 112, 164, 0, 7, 4, 167, 0, 4, 3]
abbrev dktX11_resize_4 : List UInt8 := dkwX11_resize_4 ++ dktX11_resize_5
def dkwX11_resize_3 : List UInt8 := [162, 0, 76, 42, 3, 29, 28, 16, 64, 108, 182, 0, 158, 54, 6, 21, 6, 2, 159, 0, 28, 28, 16, 64]
abbrev dktX11_resize_3 : List UInt8 := dkwX11_resize_3 ++ dktX11_resize_4
def dkwX11_resize_2 : List UInt8 := [182, 0, 143, 46, 54, 4, 28, 21, 4, 160, 0, 6, 21, 4, 172, 16, 48, 54, 5, 28, 21, 4]
abbrev dktX11_resize_2 : List UInt8 := dkwX11_resize_2 ++ dktX11_resize_3
def dkwX11_resize_1 : List UInt8 := [17, 64, 0, 164, 0, 6, 16, 253, 172, 42, 180, 0, 13, 27, 46, 62, 42, 180, 0, 29, 42, 3, 29]
abbrev dktX11_resize_1 : List UInt8 := dkwX11_resize_1 ++ dktX11_resize_2
def dkwX11_resize_0 : List UInt8 := [42, 180, 0, 7, 154, 0, 6, 16, 254, 172, 42, 27, 182, 1, 32, 153, 0, 14, 28, 155, 0, 10, 28]
abbrev dktX11_resize_0 : List UInt8 := dkwX11_resize_0 ++ dktX11_resize_1
theorem dksX11_resize_0 : cX11_resize.data.toList.drop 0 = dktX11_resize_0 := by decide +kernel
theorem dksX11_resize_1 : cX11_resize.data.toList.drop 23 = dktX11_resize_1 := dk_seg dksX11_resize_0 23 rfl rfl
theorem dksX11_resize_2 : cX11_resize.data.toList.drop 46 = dktX11_resize_2 := dk_seg dksX11_resize_1 23 rfl rfl
theorem dksX11_resize_3 : cX11_resize.data.toList.drop 68 = dktX11_resize_3 := dk_seg dksX11_resize_2 22 rfl rfl
theorem dksX11_resize_4 : cX11_resize.data.toList.drop 92 = dktX11_resize_4 := dk_seg dksX11_resize_3 24 rfl rfl
theorem dksX11_resize_5 : cX11_resize.data.toList.drop 115 = dktX11_resize_5 := dk_seg dksX11_resize_4 23 rfl rfl
theorem dksX11_resize_6 : cX11_resize.data.toList.drop 139 = dktX11_resize_6 := dk_seg dksX11_resize_5 24 rfl rfl
theorem dX11_resize_0 : decode cX11_resize 0 = .ok (.aload_n 0, 1) := dk_42 (dk_at dksX11_resize_0 0 rfl rfl)
theorem dX11_resize_1 : decode cX11_resize 1 = .ok (.getfield 7, 3) := dk_180 0 7 (dk_at dksX11_resize_0 1 rfl rfl)
theorem dX11_resize_4 : decode cX11_resize 4 = .ok (.ifCond .ne 6, 3) := dk_154 0 6 (dk_at dksX11_resize_0 4 rfl rfl)
theorem dX11_resize_7 : decode cX11_resize 7 = .ok (.bipush (-2), 2) := dk_16 254 (dk_at dksX11_resize_0 7 rfl rfl)
theorem dX11_resize_9 : decode cX11_resize 9 = .ok (.ireturn, 1) := dk_172 (dk_at dksX11_resize_0 9 rfl rfl)
theorem dX11_resize_10 : decode cX11_resize 10 = .ok (.aload_n 0, 1) := dk_42 (dk_at dksX11_resize_0 10 rfl rfl)
theorem dX11_resize_11 : decode cX11_resize 11 = .ok (.iload_n 1, 1) := dk_27 (dk_at dksX11_resize_0 11 rfl rfl)
theorem dX11_resize_12 : decode cX11_resize 12 = .ok (.invokevirtual 288, 3) := dk_182 1 32 (dk_at dksX11_resize_0 12 rfl rfl)
theorem dX11_resize_15 : decode cX11_resize 15 = .ok (.ifCond .eq 14, 3) := dk_153 0 14 (dk_at dksX11_resize_0 15 rfl rfl)
theorem dX11_resize_18 : decode cX11_resize 18 = .ok (.iload_n 2, 1) := dk_28 (dk_at dksX11_resize_0 18 rfl rfl)
theorem dX11_resize_19 : decode cX11_resize 19 = .ok (.ifCond .lt 10, 3) := dk_155 0 10 (dk_at dksX11_resize_0 19 rfl rfl)
theorem dX11_resize_22 : decode cX11_resize 22 = .ok (.iload_n 2, 1) := dk_28 (dk_at dksX11_resize_0 22 rfl rfl)
theorem dX11_resize_23 : decode cX11_resize 23 = .ok (.sipush 16384, 3) := dk_17 64 0 (dk_at dksX11_resize_1 0 rfl rfl)
theorem dX11_resize_26 : decode cX11_resize 26 = .ok (.if_icmp .le 6, 3) := dk_164 0 6 (dk_at dksX11_resize_1 3 rfl rfl)
theorem dX11_resize_29 : decode cX11_resize 29 = .ok (.bipush (-3), 2) := dk_16 253 (dk_at dksX11_resize_1 6 rfl rfl)
theorem dX11_resize_31 : decode cX11_resize 31 = .ok (.ireturn, 1) := dk_172 (dk_at dksX11_resize_1 8 rfl rfl)
theorem dX11_resize_32 : decode cX11_resize 32 = .ok (.aload_n 0, 1) := dk_42 (dk_at dksX11_resize_1 9 rfl rfl)
theorem dX11_resize_33 : decode cX11_resize 33 = .ok (.getfield 13, 3) := dk_180 0 13 (dk_at dksX11_resize_1 10 rfl rfl)
theorem dX11_resize_36 : decode cX11_resize 36 = .ok (.iload_n 1, 1) := dk_27 (dk_at dksX11_resize_1 13 rfl rfl)
theorem dX11_resize_37 : decode cX11_resize 37 = .ok (.iaload, 1) := dk_46 (dk_at dksX11_resize_1 14 rfl rfl)
theorem dX11_resize_38 : decode cX11_resize 38 = .ok (.istore_n 3, 1) := dk_62 (dk_at dksX11_resize_1 15 rfl rfl)
theorem dX11_resize_39 : decode cX11_resize 39 = .ok (.aload_n 0, 1) := dk_42 (dk_at dksX11_resize_1 16 rfl rfl)
theorem dX11_resize_40 : decode cX11_resize 40 = .ok (.getfield 29, 3) := dk_180 0 29 (dk_at dksX11_resize_1 17 rfl rfl)
theorem dX11_resize_43 : decode cX11_resize 43 = .ok (.aload_n 0, 1) := dk_42 (dk_at dksX11_resize_1 20 rfl rfl)
theorem dX11_resize_44 : decode cX11_resize 44 = .ok (.iconst 0, 1) := dk_3 (dk_at dksX11_resize_1 21 rfl rfl)
theorem dX11_resize_45 : decode cX11_resize 45 = .ok (.iload_n 3, 1) := dk_29 (dk_at dksX11_resize_1 22 rfl rfl)
theorem dX11_resize_46 : decode cX11_resize 46 = .ok (.invokevirtual 143, 3) := dk_182 0 143 (dk_at dksX11_resize_2 0 rfl rfl)
theorem dX11_resize_49 : decode cX11_resize 49 = .ok (.iaload, 1) := dk_46 (dk_at dksX11_resize_2 3 rfl rfl)
theorem dX11_resize_50 : decode cX11_resize 50 = .ok (.istore 4, 2) := dk_54 4 (dk_at dksX11_resize_2 4 rfl rfl)
theorem dX11_resize_52 : decode cX11_resize 52 = .ok (.iload_n 2, 1) := dk_28 (dk_at dksX11_resize_2 6 rfl rfl)
theorem dX11_resize_53 : decode cX11_resize 53 = .ok (.iload 4, 2) := dk_21 4 (dk_at dksX11_resize_2 7 rfl rfl)
theorem dX11_resize_55 : decode cX11_resize 55 = .ok (.if_icmp .ne 6, 3) := dk_160 0 6 (dk_at dksX11_resize_2 9 rfl rfl)
theorem dX11_resize_58 : decode cX11_resize 58 = .ok (.iload 4, 2) := dk_21 4 (dk_at dksX11_resize_2 12 rfl rfl)
theorem dX11_resize_60 : decode cX11_resize 60 = .ok (.ireturn, 1) := dk_172 (dk_at dksX11_resize_2 14 rfl rfl)
theorem dX11_resize_61 : decode cX11_resize 61 = .ok (.bipush 48, 2) := dk_16 48 (dk_at dksX11_resize_2 15 rfl rfl)
theorem dX11_resize_63 : decode cX11_resize 63 = .ok (.istore 5, 2) := dk_54 5 (dk_at dksX11_resize_2 17 rfl rfl)
theorem dX11_resize_65 : decode cX11_resize 65 = .ok (.iload_n 2, 1) := dk_28 (dk_at dksX11_resize_2 19 rfl rfl)
theorem dX11_resize_66 : decode cX11_resize 66 = .ok (.iload 4, 2) := dk_21 4 (dk_at dksX11_resize_2 20 rfl rfl)
theorem dX11_resize_68 : decode cX11_resize 68 = .ok (.if_icmp .ge 76, 3) := dk_162 0 76 (dk_at dksX11_resize_3 0 rfl rfl)
theorem dX11_resize_71 : decode cX11_resize 71 = .ok (.aload_n 0, 1) := dk_42 (dk_at dksX11_resize_3 3 rfl rfl)
theorem dX11_resize_72 : decode cX11_resize 72 = .ok (.iconst 0, 1) := dk_3 (dk_at dksX11_resize_3 4 rfl rfl)
theorem dX11_resize_73 : decode cX11_resize 73 = .ok (.iload_n 3, 1) := dk_29 (dk_at dksX11_resize_3 5 rfl rfl)
theorem dX11_resize_74 : decode cX11_resize 74 = .ok (.iload_n 2, 1) := dk_28 (dk_at dksX11_resize_3 6 rfl rfl)
theorem dX11_resize_75 : decode cX11_resize 75 = .ok (.bipush 64, 2) := dk_16 64 (dk_at dksX11_resize_3 7 rfl rfl)
theorem dX11_resize_77 : decode cX11_resize 77 = .ok (.idiv, 1) := dk_108 (dk_at dksX11_resize_3 9 rfl rfl)
theorem dX11_resize_78 : decode cX11_resize 78 = .ok (.invokevirtual 158, 3) := dk_182 0 158 (dk_at dksX11_resize_3 10 rfl rfl)
theorem dX11_resize_81 : decode cX11_resize 81 = .ok (.istore 6, 2) := dk_54 6 (dk_at dksX11_resize_3 13 rfl rfl)
theorem dX11_resize_83 : decode cX11_resize 83 = .ok (.iload 6, 2) := dk_21 6 (dk_at dksX11_resize_3 15 rfl rfl)
theorem dX11_resize_85 : decode cX11_resize 85 = .ok (.iconst (-1), 1) := dk_2 (dk_at dksX11_resize_3 17 rfl rfl)
theorem dX11_resize_86 : decode cX11_resize 86 = .ok (.if_icmp .eq 28, 3) := dk_159 0 28 (dk_at dksX11_resize_3 18 rfl rfl)
theorem dX11_resize_89 : decode cX11_resize 89 = .ok (.iload_n 2, 1) := dk_28 (dk_at dksX11_resize_3 21 rfl rfl)
theorem dX11_resize_90 : decode cX11_resize 90 = .ok (.bipush 64, 2) := dk_16 64 (dk_at dksX11_resize_3 22 rfl rfl)
theorem dX11_resize_92 : decode cX11_resize 92 = .ok (.irem, 1) := dk_112 (dk_at dksX11_resize_4 0 rfl rfl)
theorem dX11_resize_93 : decode cX11_resize 93 = .ok (.ifCond .le 21, 3) := dk_158 0 21 (dk_at dksX11_resize_4 1 rfl rfl)
theorem dX11_resize_96 : decode cX11_resize 96 = .ok (.aload_n 0, 1) := dk_42 (dk_at dksX11_resize_4 4 rfl rfl)
theorem dX11_resize_97 : decode cX11_resize 97 = .ok (.getfield 66, 3) := dk_180 0 66 (dk_at dksX11_resize_4 5 rfl rfl)
theorem dX11_resize_100 : decode cX11_resize 100 = .ok (.iload 6, 2) := dk_21 6 (dk_at dksX11_resize_4 8 rfl rfl)
theorem dX11_resize_102 : decode cX11_resize 102 = .ok (.iaload, 1) := dk_46 (dk_at dksX11_resize_4 10 rfl rfl)
theorem dX11_resize_103 : decode cX11_resize 103 = .ok (.iload_n 2, 1) := dk_28 (dk_at dksX11_resize_4 11 rfl rfl)
theorem dX11_resize_104 : decode cX11_resize 104 = .ok (.bipush 64, 2) := dk_16 64 (dk_at dksX11_resize_4 12 rfl rfl)
theorem dX11_resize_106 : decode cX11_resize 106 = .ok (.irem, 1) := dk_112 (dk_at dksX11_resize_4 14 rfl rfl)
theorem dX11_resize_107 : decode cX11_resize 107 = .ok (.if_icmp .le 7, 3) := dk_164 0 7 (dk_at dksX11_resize_4 15 rfl rfl)
theorem dX11_resize_110 : decode cX11_resize 110 = .ok (.iconst 1, 1) := dk_4 (dk_at dksX11_resize_4 18 rfl rfl)
theorem dX11_resize_111 : decode cX11_resize 111 = .ok (.goto 4, 3) := dk_167 0 4 (dk_at dksX11_resize_4 19 rfl rfl)
theorem dX11_resize_114 : decode cX11_resize 114 = .ok (.iconst 0, 1) := dk_3 (dk_at dksX11_resize_4 22 rfl rfl)
theorem dX11_resize_115 : decode cX11_resize 115 = .ok (.istore 7, 2) := dk_54 7 (dk_at dksX11_resize_5 0 rfl rfl)
theorem dX11_resize_117 : decode cX11_resize 117 = .ok (.iload 5, 2) := dk_21 5 (dk_at dksX11_resize_5 2 rfl rfl)
theorem dX11_resize_119 : decode cX11_resize 119 = .ok (.bipush 40, 2) := dk_16 40 (dk_at dksX11_resize_5 4 rfl rfl)
theorem dX11_resize_121 : decode cX11_resize 121 = .ok (.iload 7, 2) := dk_21 7 (dk_at dksX11_resize_5 6 rfl rfl)
theorem dX11_resize_123 : decode cX11_resize 123 = .ok (.ifCond .eq 16, 3) := dk_153 0 16 (dk_at dksX11_resize_5 8 rfl rfl)
theorem dX11_resize_126 : decode cX11_resize 126 = .ok (.bipush 32, 2) := dk_16 32 (dk_at dksX11_resize_5 11 rfl rfl)
theorem dX11_resize_128 : decode cX11_resize 128 = .ok (.iload_n 2, 1) := dk_28 (dk_at dksX11_resize_5 13 rfl rfl)
theorem dX11_resize_129 : decode cX11_resize 129 = .ok (.bipush 64, 2) := dk_16 64 (dk_at dksX11_resize_5 14 rfl rfl)
theorem dX11_resize_131 : decode cX11_resize 131 = .ok (.irem, 1) := dk_112 (dk_at dksX11_resize_5 16 rfl rfl)
theorem dX11_resize_132 : decode cX11_resize 132 = .ok (.invokestatic 154, 3) := dk_184 0 154 (dk_at dksX11_resize_5 17 rfl rfl)
theorem dX11_resize_135 : decode cX11_resize 135 = .ok (.iadd, 1) := dk_96 (dk_at dksX11_resize_5 20 rfl rfl)
theorem dX11_resize_136 : decode cX11_resize 136 = .ok (.goto 4, 3) := dk_167 0 4 (dk_at dksX11_resize_5 21 rfl rfl)
theorem dX11_resize_139 : decode cX11_resize 139 = .ok (.iconst 0, 1) := dk_3 (dk_at dksX11_resize_6 0 rfl rfl)
theorem dX11_resize_140 : decode cX11_resize 140 = .ok (.iadd, 1) := dk_96 (dk_at dksX11_resize_6 1 rfl rfl)
theorem dX11_resize_141 : decode cX11_resize 141 = .ok (.iadd, 1) := dk_96 (dk_at dksX11_resize_6 2 rfl rfl)
theorem dX11_resize_142 : decode cX11_resize 142 = .ok (.istore 5, 2) := dk_54 5 (dk_at dksX11_resize_6 3 rfl rfl)
theorem dX11_resize_144 : decode cX11_resize 144 = .ok (.aload_n 0, 1) := dk_42 (dk_at dksX11_resize_6 5 rfl rfl)
theorem dX11_resize_145 : decode cX11_resize 145 = .ok (.bipush 7, 2) := dk_16 7 (dk_at dksX11_resize_6 6 rfl rfl)
theorem dX11_resize_147 : decode cX11_resize 147 = .ok (.iload_n 3, 1) := dk_29 (dk_at dksX11_resize_6 8 rfl rfl)
theorem dX11_resize_148 : decode cX11_resize 148 = .ok (.iload_n 2, 1) := dk_28 (dk_at dksX11_resize_6 9 rfl rfl)
theorem dX11_resize_149 : decode cX11_resize 149 = .ok (.invokevirtual 223, 3) := dk_182 0 223 (dk_at dksX11_resize_6 10 rfl rfl)
theorem dX11_resize_152 : decode cX11_resize 152 = .ok (.pop, 1) := dk_87 (dk_at dksX11_resize_6 13 rfl rfl)
theorem dX11_resize_153 : decode cX11_resize 153 = .ok (.aload_n 0, 1) := dk_42 (dk_at dksX11_resize_6 14 rfl rfl)
theorem dX11_resize_154 : decode cX11_resize 154 = .ok (.iload 5, 2) := dk_21 5 (dk_at dksX11_resize_6 15 rfl rfl)
theorem dX11_resize_156 : decode cX11_resize 156 = .ok (.invokevirtual 226, 3) := dk_182 0 226 (dk_at dksX11_resize_6 17 rfl rfl)
theorem dX11_resize_159 : decode cX11_resize 159 = .ok (.iload 4, 2) := dk_21 4 (dk_at dksX11_resize_6 20 rfl rfl)
theorem dX11_resize_161 : decode cX11_resize 161 = .ok (.ireturn, 1) := dk_172 (dk_at dksX11_resize_6 22 rfl rfl)
abbrev cX11_byteAt : ByteArray := prog_12_method_75_code
def yX11_byteAt : MethodName := ⟨RX11, "byteAt", "(II)I"⟩
def dkwX11_byteAt_2 : List UInt8 := [167, 0, 14, 42, 42, 180, 0, 13, 27, 46, 28, 182, 0, 251, 172]
abbrev dktX11_byteAt_2 : List UInt8 := dkwX11_byteAt_2 ++ []
def dkwX11_byteAt_1 : List UInt8 := [155, 0, 23, 28, 42, 180, 0, 29, 42, 3, 42, 180, 0, 13, 27, 46, 182, 0, 143, 46, 161, 0, 7, 2]
abbrev dktX11_byteAt_1 : List UInt8 := dkwX11_byteAt_1 ++ dktX11_byteAt_2
def dkwX11_byteAt_0 : List UInt8 := [42, 180, 0, 7, 154, 0, 6, 16, 254, 172, 42, 27, 182, 1, 32, 154, 0, 6, 16, 253, 172, 28]
abbrev dktX11_byteAt_0 : List UInt8 := dkwX11_byteAt_0 ++ dktX11_byteAt_1
theorem dksX11_byteAt_0 : cX11_byteAt.data.toList.drop 0 = dktX11_byteAt_0 := by decide +kernel
theorem dksX11_byteAt_1 : cX11_byteAt.data.toList.drop 22 = dktX11_byteAt_1 := dk_seg dksX11_byteAt_0 22 rfl rfl
theorem dksX11_byteAt_2 : cX11_byteAt.data.toList.drop 46 = dktX11_byteAt_2 := dk_seg dksX11_byteAt_1 24 rfl rfl
theorem dX11_byteAt_0 : decode cX11_byteAt 0 = .ok (.aload_n 0, 1) := dk_42 (dk_at dksX11_byteAt_0 0 rfl rfl)
theorem dX11_byteAt_1 : decode cX11_byteAt 1 = .ok (.getfield 7, 3) := dk_180 0 7 (dk_at dksX11_byteAt_0 1 rfl rfl)
theorem dX11_byteAt_4 : decode cX11_byteAt 4 = .ok (.ifCond .ne 6, 3) := dk_154 0 6 (dk_at dksX11_byteAt_0 4 rfl rfl)
theorem dX11_byteAt_7 : decode cX11_byteAt 7 = .ok (.bipush (-2), 2) := dk_16 254 (dk_at dksX11_byteAt_0 7 rfl rfl)
theorem dX11_byteAt_9 : decode cX11_byteAt 9 = .ok (.ireturn, 1) := dk_172 (dk_at dksX11_byteAt_0 9 rfl rfl)
theorem dX11_byteAt_10 : decode cX11_byteAt 10 = .ok (.aload_n 0, 1) := dk_42 (dk_at dksX11_byteAt_0 10 rfl rfl)
theorem dX11_byteAt_11 : decode cX11_byteAt 11 = .ok (.iload_n 1, 1) := dk_27 (dk_at dksX11_byteAt_0 11 rfl rfl)
theorem dX11_byteAt_12 : decode cX11_byteAt 12 = .ok (.invokevirtual 288, 3) := dk_182 1 32 (dk_at dksX11_byteAt_0 12 rfl rfl)
theorem dX11_byteAt_15 : decode cX11_byteAt 15 = .ok (.ifCond .ne 6, 3) := dk_154 0 6 (dk_at dksX11_byteAt_0 15 rfl rfl)
theorem dX11_byteAt_18 : decode cX11_byteAt 18 = .ok (.bipush (-3), 2) := dk_16 253 (dk_at dksX11_byteAt_0 18 rfl rfl)
theorem dX11_byteAt_20 : decode cX11_byteAt 20 = .ok (.ireturn, 1) := dk_172 (dk_at dksX11_byteAt_0 20 rfl rfl)
theorem dX11_byteAt_21 : decode cX11_byteAt 21 = .ok (.iload_n 2, 1) := dk_28 (dk_at dksX11_byteAt_0 21 rfl rfl)
theorem dX11_byteAt_22 : decode cX11_byteAt 22 = .ok (.ifCond .lt 23, 3) := dk_155 0 23 (dk_at dksX11_byteAt_1 0 rfl rfl)
theorem dX11_byteAt_25 : decode cX11_byteAt 25 = .ok (.iload_n 2, 1) := dk_28 (dk_at dksX11_byteAt_1 3 rfl rfl)
theorem dX11_byteAt_26 : decode cX11_byteAt 26 = .ok (.aload_n 0, 1) := dk_42 (dk_at dksX11_byteAt_1 4 rfl rfl)
theorem dX11_byteAt_27 : decode cX11_byteAt 27 = .ok (.getfield 29, 3) := dk_180 0 29 (dk_at dksX11_byteAt_1 5 rfl rfl)
theorem dX11_byteAt_30 : decode cX11_byteAt 30 = .ok (.aload_n 0, 1) := dk_42 (dk_at dksX11_byteAt_1 8 rfl rfl)
theorem dX11_byteAt_31 : decode cX11_byteAt 31 = .ok (.iconst 0, 1) := dk_3 (dk_at dksX11_byteAt_1 9 rfl rfl)
theorem dX11_byteAt_32 : decode cX11_byteAt 32 = .ok (.aload_n 0, 1) := dk_42 (dk_at dksX11_byteAt_1 10 rfl rfl)
theorem dX11_byteAt_33 : decode cX11_byteAt 33 = .ok (.getfield 13, 3) := dk_180 0 13 (dk_at dksX11_byteAt_1 11 rfl rfl)
theorem dX11_byteAt_36 : decode cX11_byteAt 36 = .ok (.iload_n 1, 1) := dk_27 (dk_at dksX11_byteAt_1 14 rfl rfl)
theorem dX11_byteAt_37 : decode cX11_byteAt 37 = .ok (.iaload, 1) := dk_46 (dk_at dksX11_byteAt_1 15 rfl rfl)
theorem dX11_byteAt_38 : decode cX11_byteAt 38 = .ok (.invokevirtual 143, 3) := dk_182 0 143 (dk_at dksX11_byteAt_1 16 rfl rfl)
theorem dX11_byteAt_41 : decode cX11_byteAt 41 = .ok (.iaload, 1) := dk_46 (dk_at dksX11_byteAt_1 19 rfl rfl)
theorem dX11_byteAt_42 : decode cX11_byteAt 42 = .ok (.if_icmp .lt 7, 3) := dk_161 0 7 (dk_at dksX11_byteAt_1 20 rfl rfl)
theorem dX11_byteAt_45 : decode cX11_byteAt 45 = .ok (.iconst (-1), 1) := dk_2 (dk_at dksX11_byteAt_1 23 rfl rfl)
theorem dX11_byteAt_46 : decode cX11_byteAt 46 = .ok (.goto 14, 3) := dk_167 0 14 (dk_at dksX11_byteAt_2 0 rfl rfl)
theorem dX11_byteAt_49 : decode cX11_byteAt 49 = .ok (.aload_n 0, 1) := dk_42 (dk_at dksX11_byteAt_2 3 rfl rfl)
theorem dX11_byteAt_50 : decode cX11_byteAt 50 = .ok (.aload_n 0, 1) := dk_42 (dk_at dksX11_byteAt_2 4 rfl rfl)
theorem dX11_byteAt_51 : decode cX11_byteAt 51 = .ok (.getfield 13, 3) := dk_180 0 13 (dk_at dksX11_byteAt_2 5 rfl rfl)
theorem dX11_byteAt_54 : decode cX11_byteAt 54 = .ok (.iload_n 1, 1) := dk_27 (dk_at dksX11_byteAt_2 8 rfl rfl)
theorem dX11_byteAt_55 : decode cX11_byteAt 55 = .ok (.iaload, 1) := dk_46 (dk_at dksX11_byteAt_2 9 rfl rfl)
theorem dX11_byteAt_56 : decode cX11_byteAt 56 = .ok (.iload_n 2, 1) := dk_28 (dk_at dksX11_byteAt_2 10 rfl rfl)
theorem dX11_byteAt_57 : decode cX11_byteAt 57 = .ok (.invokevirtual 251, 3) := dk_182 0 251 (dk_at dksX11_byteAt_2 11 rfl rfl)
theorem dX11_byteAt_60 : decode cX11_byteAt 60 = .ok (.ireturn, 1) := dk_172 (dk_at dksX11_byteAt_2 14 rfl rfl)
abbrev cX11_word : ByteArray := prog_12_method_76_code
def yX11_word : MethodName := ⟨RX11, "word", "(II)J"⟩
def dkwX11_word_4 : List UInt8 := [129, 66, 132, 6, 1, 167, 255, 195, 33, 173]
abbrev dktX11_word_4 : List UInt8 := dkwX11_word_4 ++ []
def dkwX11_word_3 : List UInt8 := [42, 42, 180, 0, 13, 27, 46, 22, 7, 136, 182, 0, 251, 133, 16, 8, 21, 6, 104, 121, 167, 0, 4, 9]
abbrev dktX11_word_3 : List UInt8 := dkwX11_word_3 ++ dktX11_word_4
def dkwX11_word_2 : List UInt8 := [133, 21, 6, 133, 97, 55, 7, 33, 22, 7, 9, 148, 155, 0, 35, 22, 7, 21, 5, 133, 148, 156, 0, 26]
abbrev dktX11_word_2 : List UInt8 := dkwX11_word_2 ++ dktX11_word_3
def dkwX11_word_1 : List UInt8 := [3, 42, 180, 0, 13, 27, 46, 182, 0, 143, 46, 54, 5, 3, 54, 6, 21, 6, 16, 8, 162, 0, 60, 28]
abbrev dktX11_word_1 : List UInt8 := dkwX11_word_1 ++ dktX11_word_2
def dkwX11_word_0 : List UInt8 := [42, 180, 0, 7, 153, 0, 11, 42, 27, 182, 1, 32, 154, 0, 5, 9, 173, 9, 66, 42, 180, 0, 29, 42]
abbrev dktX11_word_0 : List UInt8 := dkwX11_word_0 ++ dktX11_word_1
theorem dksX11_word_0 : cX11_word.data.toList.drop 0 = dktX11_word_0 := by decide +kernel
theorem dksX11_word_1 : cX11_word.data.toList.drop 24 = dktX11_word_1 := dk_seg dksX11_word_0 24 rfl rfl
theorem dksX11_word_2 : cX11_word.data.toList.drop 48 = dktX11_word_2 := dk_seg dksX11_word_1 24 rfl rfl
theorem dksX11_word_3 : cX11_word.data.toList.drop 72 = dktX11_word_3 := dk_seg dksX11_word_2 24 rfl rfl
theorem dksX11_word_4 : cX11_word.data.toList.drop 96 = dktX11_word_4 := dk_seg dksX11_word_3 24 rfl rfl
theorem dX11_word_0 : decode cX11_word 0 = .ok (.aload_n 0, 1) := dk_42 (dk_at dksX11_word_0 0 rfl rfl)
theorem dX11_word_1 : decode cX11_word 1 = .ok (.getfield 7, 3) := dk_180 0 7 (dk_at dksX11_word_0 1 rfl rfl)
theorem dX11_word_4 : decode cX11_word 4 = .ok (.ifCond .eq 11, 3) := dk_153 0 11 (dk_at dksX11_word_0 4 rfl rfl)
theorem dX11_word_7 : decode cX11_word 7 = .ok (.aload_n 0, 1) := dk_42 (dk_at dksX11_word_0 7 rfl rfl)
theorem dX11_word_8 : decode cX11_word 8 = .ok (.iload_n 1, 1) := dk_27 (dk_at dksX11_word_0 8 rfl rfl)
theorem dX11_word_9 : decode cX11_word 9 = .ok (.invokevirtual 288, 3) := dk_182 1 32 (dk_at dksX11_word_0 9 rfl rfl)
theorem dX11_word_12 : decode cX11_word 12 = .ok (.ifCond .ne 5, 3) := dk_154 0 5 (dk_at dksX11_word_0 12 rfl rfl)
theorem dX11_word_15 : decode cX11_word 15 = .ok (.lconst 0, 1) := dk_9 (dk_at dksX11_word_0 15 rfl rfl)
theorem dX11_word_16 : decode cX11_word 16 = .ok (.lreturn, 1) := dk_173 (dk_at dksX11_word_0 16 rfl rfl)
theorem dX11_word_17 : decode cX11_word 17 = .ok (.lconst 0, 1) := dk_9 (dk_at dksX11_word_0 17 rfl rfl)
theorem dX11_word_18 : decode cX11_word 18 = .ok (.lstore_n 3, 1) := dk_66 (dk_at dksX11_word_0 18 rfl rfl)
theorem dX11_word_19 : decode cX11_word 19 = .ok (.aload_n 0, 1) := dk_42 (dk_at dksX11_word_0 19 rfl rfl)
theorem dX11_word_20 : decode cX11_word 20 = .ok (.getfield 29, 3) := dk_180 0 29 (dk_at dksX11_word_0 20 rfl rfl)
theorem dX11_word_23 : decode cX11_word 23 = .ok (.aload_n 0, 1) := dk_42 (dk_at dksX11_word_0 23 rfl rfl)
theorem dX11_word_24 : decode cX11_word 24 = .ok (.iconst 0, 1) := dk_3 (dk_at dksX11_word_1 0 rfl rfl)
theorem dX11_word_25 : decode cX11_word 25 = .ok (.aload_n 0, 1) := dk_42 (dk_at dksX11_word_1 1 rfl rfl)
theorem dX11_word_26 : decode cX11_word 26 = .ok (.getfield 13, 3) := dk_180 0 13 (dk_at dksX11_word_1 2 rfl rfl)
theorem dX11_word_29 : decode cX11_word 29 = .ok (.iload_n 1, 1) := dk_27 (dk_at dksX11_word_1 5 rfl rfl)
theorem dX11_word_30 : decode cX11_word 30 = .ok (.iaload, 1) := dk_46 (dk_at dksX11_word_1 6 rfl rfl)
theorem dX11_word_31 : decode cX11_word 31 = .ok (.invokevirtual 143, 3) := dk_182 0 143 (dk_at dksX11_word_1 7 rfl rfl)
theorem dX11_word_34 : decode cX11_word 34 = .ok (.iaload, 1) := dk_46 (dk_at dksX11_word_1 10 rfl rfl)
theorem dX11_word_35 : decode cX11_word 35 = .ok (.istore 5, 2) := dk_54 5 (dk_at dksX11_word_1 11 rfl rfl)
theorem dX11_word_37 : decode cX11_word 37 = .ok (.iconst 0, 1) := dk_3 (dk_at dksX11_word_1 13 rfl rfl)
theorem dX11_word_38 : decode cX11_word 38 = .ok (.istore 6, 2) := dk_54 6 (dk_at dksX11_word_1 14 rfl rfl)
theorem dX11_word_40 : decode cX11_word 40 = .ok (.iload 6, 2) := dk_21 6 (dk_at dksX11_word_1 16 rfl rfl)
theorem dX11_word_42 : decode cX11_word 42 = .ok (.bipush 8, 2) := dk_16 8 (dk_at dksX11_word_1 18 rfl rfl)
theorem dX11_word_44 : decode cX11_word 44 = .ok (.if_icmp .ge 60, 3) := dk_162 0 60 (dk_at dksX11_word_1 20 rfl rfl)
theorem dX11_word_47 : decode cX11_word 47 = .ok (.iload_n 2, 1) := dk_28 (dk_at dksX11_word_1 23 rfl rfl)
theorem dX11_word_48 : decode cX11_word 48 = .ok (.i2l, 1) := dk_133 (dk_at dksX11_word_2 0 rfl rfl)
theorem dX11_word_49 : decode cX11_word 49 = .ok (.iload 6, 2) := dk_21 6 (dk_at dksX11_word_2 1 rfl rfl)
theorem dX11_word_51 : decode cX11_word 51 = .ok (.i2l, 1) := dk_133 (dk_at dksX11_word_2 3 rfl rfl)
theorem dX11_word_52 : decode cX11_word 52 = .ok (.ladd, 1) := dk_97 (dk_at dksX11_word_2 4 rfl rfl)
theorem dX11_word_53 : decode cX11_word 53 = .ok (.lstore 7, 2) := dk_55 7 (dk_at dksX11_word_2 5 rfl rfl)
theorem dX11_word_55 : decode cX11_word 55 = .ok (.lload_n 3, 1) := dk_33 (dk_at dksX11_word_2 7 rfl rfl)
theorem dX11_word_56 : decode cX11_word 56 = .ok (.lload 7, 2) := dk_22 7 (dk_at dksX11_word_2 8 rfl rfl)
theorem dX11_word_58 : decode cX11_word 58 = .ok (.lconst 0, 1) := dk_9 (dk_at dksX11_word_2 10 rfl rfl)
theorem dX11_word_59 : decode cX11_word 59 = .ok (.lcmp, 1) := dk_148 (dk_at dksX11_word_2 11 rfl rfl)
theorem dX11_word_60 : decode cX11_word 60 = .ok (.ifCond .lt 35, 3) := dk_155 0 35 (dk_at dksX11_word_2 12 rfl rfl)
theorem dX11_word_63 : decode cX11_word 63 = .ok (.lload 7, 2) := dk_22 7 (dk_at dksX11_word_2 15 rfl rfl)
theorem dX11_word_65 : decode cX11_word 65 = .ok (.iload 5, 2) := dk_21 5 (dk_at dksX11_word_2 17 rfl rfl)
theorem dX11_word_67 : decode cX11_word 67 = .ok (.i2l, 1) := dk_133 (dk_at dksX11_word_2 19 rfl rfl)
theorem dX11_word_68 : decode cX11_word 68 = .ok (.lcmp, 1) := dk_148 (dk_at dksX11_word_2 20 rfl rfl)
theorem dX11_word_69 : decode cX11_word 69 = .ok (.ifCond .ge 26, 3) := dk_156 0 26 (dk_at dksX11_word_2 21 rfl rfl)
theorem dX11_word_72 : decode cX11_word 72 = .ok (.aload_n 0, 1) := dk_42 (dk_at dksX11_word_3 0 rfl rfl)
theorem dX11_word_73 : decode cX11_word 73 = .ok (.aload_n 0, 1) := dk_42 (dk_at dksX11_word_3 1 rfl rfl)
theorem dX11_word_74 : decode cX11_word 74 = .ok (.getfield 13, 3) := dk_180 0 13 (dk_at dksX11_word_3 2 rfl rfl)
theorem dX11_word_77 : decode cX11_word 77 = .ok (.iload_n 1, 1) := dk_27 (dk_at dksX11_word_3 5 rfl rfl)
theorem dX11_word_78 : decode cX11_word 78 = .ok (.iaload, 1) := dk_46 (dk_at dksX11_word_3 6 rfl rfl)
theorem dX11_word_79 : decode cX11_word 79 = .ok (.lload 7, 2) := dk_22 7 (dk_at dksX11_word_3 7 rfl rfl)
theorem dX11_word_81 : decode cX11_word 81 = .ok (.l2i, 1) := dk_136 (dk_at dksX11_word_3 9 rfl rfl)
theorem dX11_word_82 : decode cX11_word 82 = .ok (.invokevirtual 251, 3) := dk_182 0 251 (dk_at dksX11_word_3 10 rfl rfl)
theorem dX11_word_85 : decode cX11_word 85 = .ok (.i2l, 1) := dk_133 (dk_at dksX11_word_3 13 rfl rfl)
theorem dX11_word_86 : decode cX11_word 86 = .ok (.bipush 8, 2) := dk_16 8 (dk_at dksX11_word_3 14 rfl rfl)
theorem dX11_word_88 : decode cX11_word 88 = .ok (.iload 6, 2) := dk_21 6 (dk_at dksX11_word_3 16 rfl rfl)
theorem dX11_word_90 : decode cX11_word 90 = .ok (.imul, 1) := dk_104 (dk_at dksX11_word_3 18 rfl rfl)
theorem dX11_word_91 : decode cX11_word 91 = .ok (.lshl, 1) := dk_121 (dk_at dksX11_word_3 19 rfl rfl)
theorem dX11_word_92 : decode cX11_word 92 = .ok (.goto 4, 3) := dk_167 0 4 (dk_at dksX11_word_3 20 rfl rfl)
theorem dX11_word_95 : decode cX11_word 95 = .ok (.lconst 0, 1) := dk_9 (dk_at dksX11_word_3 23 rfl rfl)
theorem dX11_word_96 : decode cX11_word 96 = .ok (.lor, 1) := dk_129 (dk_at dksX11_word_4 0 rfl rfl)
theorem dX11_word_97 : decode cX11_word 97 = .ok (.lstore_n 3, 1) := dk_66 (dk_at dksX11_word_4 1 rfl rfl)
theorem dX11_word_98 : decode cX11_word 98 = .ok (.iinc 6 1, 3) := dk_132 6 1 (dk_at dksX11_word_4 2 rfl rfl)
theorem dX11_word_101 : decode cX11_word 101 = .ok (.goto (-61), 3) := dk_167 255 195 (dk_at dksX11_word_4 5 rfl rfl)
theorem dX11_word_104 : decode cX11_word 104 = .ok (.lload_n 3, 1) := dk_33 (dk_at dksX11_word_4 8 rfl rfl)
theorem dX11_word_105 : decode cX11_word 105 = .ok (.lreturn, 1) := dk_173 (dk_at dksX11_word_4 9 rfl rfl)
abbrev cX11_sum : ByteArray := prog_12_method_77_code
def yX11_sum : MethodName := ⟨RX11, "sum", "(I)J"⟩
def dkwX11_sum_4 : List UInt8 := [96, 4, 96, 133, 105, 97, 65, 132, 5, 1, 167, 255, 187, 132, 4, 1, 167, 255, 167, 32, 173]
abbrev dktX11_sum_4 : List UInt8 := dkwX11_sum_4 ++ []
def dkwX11_sum_3 : List UInt8 := [21, 4, 104, 21, 5, 96, 51, 133, 20, 1, 45, 127, 16, 64, 42, 180, 0, 63, 21, 4, 46, 104, 21, 5]
abbrev dktX11_sum_3 : List UInt8 := dkwX11_sum_3 ++ dktX11_sum_4
def dkwX11_sum_2 : List UInt8 := [42, 180, 0, 60, 21, 4, 46, 42, 180, 0, 13, 27, 46, 160, 0, 47, 32, 42, 180, 0, 70, 16, 64]
abbrev dktX11_sum_2 : List UInt8 := dkwX11_sum_2 ++ dktX11_sum_3
def dkwX11_sum_1 : List UInt8 := [42, 180, 0, 57, 3, 46, 162, 0, 84, 3, 54, 5, 21, 5, 42, 180, 0, 66, 21, 4, 46, 162, 0, 63]
abbrev dktX11_sum_1 : List UInt8 := dkwX11_sum_1 ++ dktX11_sum_2
def dkwX11_sum_0 : List UInt8 := [42, 180, 0, 7, 153, 0, 11, 42, 27, 182, 1, 32, 154, 0, 5, 9, 173, 9, 65, 3, 54, 4, 21, 4]
abbrev dktX11_sum_0 : List UInt8 := dkwX11_sum_0 ++ dktX11_sum_1
theorem dksX11_sum_0 : cX11_sum.data.toList.drop 0 = dktX11_sum_0 := by decide +kernel
theorem dksX11_sum_1 : cX11_sum.data.toList.drop 24 = dktX11_sum_1 := dk_seg dksX11_sum_0 24 rfl rfl
theorem dksX11_sum_2 : cX11_sum.data.toList.drop 48 = dktX11_sum_2 := dk_seg dksX11_sum_1 24 rfl rfl
theorem dksX11_sum_3 : cX11_sum.data.toList.drop 71 = dktX11_sum_3 := dk_seg dksX11_sum_2 23 rfl rfl
theorem dksX11_sum_4 : cX11_sum.data.toList.drop 95 = dktX11_sum_4 := dk_seg dksX11_sum_3 24 rfl rfl
theorem dX11_sum_0 : decode cX11_sum 0 = .ok (.aload_n 0, 1) := dk_42 (dk_at dksX11_sum_0 0 rfl rfl)
theorem dX11_sum_1 : decode cX11_sum 1 = .ok (.getfield 7, 3) := dk_180 0 7 (dk_at dksX11_sum_0 1 rfl rfl)
theorem dX11_sum_4 : decode cX11_sum 4 = .ok (.ifCond .eq 11, 3) := dk_153 0 11 (dk_at dksX11_sum_0 4 rfl rfl)
theorem dX11_sum_7 : decode cX11_sum 7 = .ok (.aload_n 0, 1) := dk_42 (dk_at dksX11_sum_0 7 rfl rfl)
theorem dX11_sum_8 : decode cX11_sum 8 = .ok (.iload_n 1, 1) := dk_27 (dk_at dksX11_sum_0 8 rfl rfl)
theorem dX11_sum_9 : decode cX11_sum 9 = .ok (.invokevirtual 288, 3) := dk_182 1 32 (dk_at dksX11_sum_0 9 rfl rfl)
theorem dX11_sum_12 : decode cX11_sum 12 = .ok (.ifCond .ne 5, 3) := dk_154 0 5 (dk_at dksX11_sum_0 12 rfl rfl)
theorem dX11_sum_15 : decode cX11_sum 15 = .ok (.lconst 0, 1) := dk_9 (dk_at dksX11_sum_0 15 rfl rfl)
theorem dX11_sum_16 : decode cX11_sum 16 = .ok (.lreturn, 1) := dk_173 (dk_at dksX11_sum_0 16 rfl rfl)
theorem dX11_sum_17 : decode cX11_sum 17 = .ok (.lconst 0, 1) := dk_9 (dk_at dksX11_sum_0 17 rfl rfl)
theorem dX11_sum_18 : decode cX11_sum 18 = .ok (.lstore_n 2, 1) := dk_65 (dk_at dksX11_sum_0 18 rfl rfl)
theorem dX11_sum_19 : decode cX11_sum 19 = .ok (.iconst 0, 1) := dk_3 (dk_at dksX11_sum_0 19 rfl rfl)
theorem dX11_sum_20 : decode cX11_sum 20 = .ok (.istore 4, 2) := dk_54 4 (dk_at dksX11_sum_0 20 rfl rfl)
theorem dX11_sum_22 : decode cX11_sum 22 = .ok (.iload 4, 2) := dk_21 4 (dk_at dksX11_sum_0 22 rfl rfl)
theorem dX11_sum_24 : decode cX11_sum 24 = .ok (.aload_n 0, 1) := dk_42 (dk_at dksX11_sum_1 0 rfl rfl)
theorem dX11_sum_25 : decode cX11_sum 25 = .ok (.getfield 57, 3) := dk_180 0 57 (dk_at dksX11_sum_1 1 rfl rfl)
theorem dX11_sum_28 : decode cX11_sum 28 = .ok (.iconst 0, 1) := dk_3 (dk_at dksX11_sum_1 4 rfl rfl)
theorem dX11_sum_29 : decode cX11_sum 29 = .ok (.iaload, 1) := dk_46 (dk_at dksX11_sum_1 5 rfl rfl)
theorem dX11_sum_30 : decode cX11_sum 30 = .ok (.if_icmp .ge 84, 3) := dk_162 0 84 (dk_at dksX11_sum_1 6 rfl rfl)
theorem dX11_sum_33 : decode cX11_sum 33 = .ok (.iconst 0, 1) := dk_3 (dk_at dksX11_sum_1 9 rfl rfl)
theorem dX11_sum_34 : decode cX11_sum 34 = .ok (.istore 5, 2) := dk_54 5 (dk_at dksX11_sum_1 10 rfl rfl)
theorem dX11_sum_36 : decode cX11_sum 36 = .ok (.iload 5, 2) := dk_21 5 (dk_at dksX11_sum_1 12 rfl rfl)
theorem dX11_sum_38 : decode cX11_sum 38 = .ok (.aload_n 0, 1) := dk_42 (dk_at dksX11_sum_1 14 rfl rfl)
theorem dX11_sum_39 : decode cX11_sum 39 = .ok (.getfield 66, 3) := dk_180 0 66 (dk_at dksX11_sum_1 15 rfl rfl)
theorem dX11_sum_42 : decode cX11_sum 42 = .ok (.iload 4, 2) := dk_21 4 (dk_at dksX11_sum_1 18 rfl rfl)
theorem dX11_sum_44 : decode cX11_sum 44 = .ok (.iaload, 1) := dk_46 (dk_at dksX11_sum_1 20 rfl rfl)
theorem dX11_sum_45 : decode cX11_sum 45 = .ok (.if_icmp .ge 63, 3) := dk_162 0 63 (dk_at dksX11_sum_1 21 rfl rfl)
theorem dX11_sum_48 : decode cX11_sum 48 = .ok (.aload_n 0, 1) := dk_42 (dk_at dksX11_sum_2 0 rfl rfl)
theorem dX11_sum_49 : decode cX11_sum 49 = .ok (.getfield 60, 3) := dk_180 0 60 (dk_at dksX11_sum_2 1 rfl rfl)
theorem dX11_sum_52 : decode cX11_sum 52 = .ok (.iload 4, 2) := dk_21 4 (dk_at dksX11_sum_2 4 rfl rfl)
theorem dX11_sum_54 : decode cX11_sum 54 = .ok (.iaload, 1) := dk_46 (dk_at dksX11_sum_2 6 rfl rfl)
theorem dX11_sum_55 : decode cX11_sum 55 = .ok (.aload_n 0, 1) := dk_42 (dk_at dksX11_sum_2 7 rfl rfl)
theorem dX11_sum_56 : decode cX11_sum 56 = .ok (.getfield 13, 3) := dk_180 0 13 (dk_at dksX11_sum_2 8 rfl rfl)
theorem dX11_sum_59 : decode cX11_sum 59 = .ok (.iload_n 1, 1) := dk_27 (dk_at dksX11_sum_2 11 rfl rfl)
theorem dX11_sum_60 : decode cX11_sum 60 = .ok (.iaload, 1) := dk_46 (dk_at dksX11_sum_2 12 rfl rfl)
theorem dX11_sum_61 : decode cX11_sum 61 = .ok (.if_icmp .ne 47, 3) := dk_160 0 47 (dk_at dksX11_sum_2 13 rfl rfl)
theorem dX11_sum_64 : decode cX11_sum 64 = .ok (.lload_n 2, 1) := dk_32 (dk_at dksX11_sum_2 16 rfl rfl)
theorem dX11_sum_65 : decode cX11_sum 65 = .ok (.aload_n 0, 1) := dk_42 (dk_at dksX11_sum_2 17 rfl rfl)
theorem dX11_sum_66 : decode cX11_sum 66 = .ok (.getfield 70, 3) := dk_180 0 70 (dk_at dksX11_sum_2 18 rfl rfl)
theorem dX11_sum_69 : decode cX11_sum 69 = .ok (.bipush 64, 2) := dk_16 64 (dk_at dksX11_sum_2 21 rfl rfl)
theorem dX11_sum_71 : decode cX11_sum 71 = .ok (.iload 4, 2) := dk_21 4 (dk_at dksX11_sum_3 0 rfl rfl)
theorem dX11_sum_73 : decode cX11_sum 73 = .ok (.imul, 1) := dk_104 (dk_at dksX11_sum_3 2 rfl rfl)
theorem dX11_sum_74 : decode cX11_sum 74 = .ok (.iload 5, 2) := dk_21 5 (dk_at dksX11_sum_3 3 rfl rfl)
theorem dX11_sum_76 : decode cX11_sum 76 = .ok (.iadd, 1) := dk_96 (dk_at dksX11_sum_3 5 rfl rfl)
theorem dX11_sum_77 : decode cX11_sum 77 = .ok (.baload, 1) := dk_51 (dk_at dksX11_sum_3 6 rfl rfl)
theorem dX11_sum_78 : decode cX11_sum 78 = .ok (.i2l, 1) := dk_133 (dk_at dksX11_sum_3 7 rfl rfl)
theorem dX11_sum_79 : decode cX11_sum 79 = .ok (.ldc2_w 301, 3) := dk_20 1 45 (dk_at dksX11_sum_3 8 rfl rfl)
theorem dX11_sum_82 : decode cX11_sum 82 = .ok (.land, 1) := dk_127 (dk_at dksX11_sum_3 11 rfl rfl)
theorem dX11_sum_83 : decode cX11_sum 83 = .ok (.bipush 64, 2) := dk_16 64 (dk_at dksX11_sum_3 12 rfl rfl)
theorem dX11_sum_85 : decode cX11_sum 85 = .ok (.aload_n 0, 1) := dk_42 (dk_at dksX11_sum_3 14 rfl rfl)
theorem dX11_sum_86 : decode cX11_sum 86 = .ok (.getfield 63, 3) := dk_180 0 63 (dk_at dksX11_sum_3 15 rfl rfl)
theorem dX11_sum_89 : decode cX11_sum 89 = .ok (.iload 4, 2) := dk_21 4 (dk_at dksX11_sum_3 18 rfl rfl)
theorem dX11_sum_91 : decode cX11_sum 91 = .ok (.iaload, 1) := dk_46 (dk_at dksX11_sum_3 20 rfl rfl)
theorem dX11_sum_92 : decode cX11_sum 92 = .ok (.imul, 1) := dk_104 (dk_at dksX11_sum_3 21 rfl rfl)
theorem dX11_sum_93 : decode cX11_sum 93 = .ok (.iload 5, 2) := dk_21 5 (dk_at dksX11_sum_3 22 rfl rfl)
theorem dX11_sum_95 : decode cX11_sum 95 = .ok (.iadd, 1) := dk_96 (dk_at dksX11_sum_4 0 rfl rfl)
theorem dX11_sum_96 : decode cX11_sum 96 = .ok (.iconst 1, 1) := dk_4 (dk_at dksX11_sum_4 1 rfl rfl)
theorem dX11_sum_97 : decode cX11_sum 97 = .ok (.iadd, 1) := dk_96 (dk_at dksX11_sum_4 2 rfl rfl)
theorem dX11_sum_98 : decode cX11_sum 98 = .ok (.i2l, 1) := dk_133 (dk_at dksX11_sum_4 3 rfl rfl)
theorem dX11_sum_99 : decode cX11_sum 99 = .ok (.lmul, 1) := dk_105 (dk_at dksX11_sum_4 4 rfl rfl)
theorem dX11_sum_100 : decode cX11_sum 100 = .ok (.ladd, 1) := dk_97 (dk_at dksX11_sum_4 5 rfl rfl)
theorem dX11_sum_101 : decode cX11_sum 101 = .ok (.lstore_n 2, 1) := dk_65 (dk_at dksX11_sum_4 6 rfl rfl)
theorem dX11_sum_102 : decode cX11_sum 102 = .ok (.iinc 5 1, 3) := dk_132 5 1 (dk_at dksX11_sum_4 7 rfl rfl)
theorem dX11_sum_105 : decode cX11_sum 105 = .ok (.goto (-69), 3) := dk_167 255 187 (dk_at dksX11_sum_4 10 rfl rfl)
theorem dX11_sum_108 : decode cX11_sum 108 = .ok (.iinc 4 1, 3) := dk_132 4 1 (dk_at dksX11_sum_4 13 rfl rfl)
theorem dX11_sum_111 : decode cX11_sum 111 = .ok (.goto (-89), 3) := dk_167 255 167 (dk_at dksX11_sum_4 16 rfl rfl)
theorem dX11_sum_114 : decode cX11_sum 114 = .ok (.lload_n 2, 1) := dk_32 (dk_at dksX11_sum_4 19 rfl rfl)
theorem dX11_sum_115 : decode cX11_sum 115 = .ok (.lreturn, 1) := dk_173 (dk_at dksX11_sum_4 20 rfl rfl)
abbrev cX11_rawWrite : ByteArray := prog_12_method_80_code
def yX11_rawWrite : MethodName := ⟨RX11, "rawWrite", "(II)I"⟩
def dkwX11_rawWrite_3 : List UInt8 := [46, 4, 100, 172]
abbrev dktX11_rawWrite_3 : List UInt8 := dkwX11_rawWrite_3 ++ []
def dkwX11_rawWrite_2 : List UInt8 := [180, 0, 120, 27, 46, 28, 182, 1, 50, 42, 180, 0, 120, 27, 92, 46, 4, 96, 79, 42, 180, 0, 120, 27]
abbrev dktX11_rawWrite_2 : List UInt8 := dkwX11_rawWrite_2 ++ dktX11_rawWrite_3
def dkwX11_rawWrite_1 : List UInt8 := [180, 0, 120, 27, 46, 42, 180, 0, 126, 17, 0, 128, 108, 160, 0, 6, 16, 246, 172, 42, 27, 42]
abbrev dktX11_rawWrite_1 : List UInt8 := dkwX11_rawWrite_1 ++ dktX11_rawWrite_2
def dkwX11_rawWrite_0 : List UInt8 := [42, 180, 0, 7, 154, 0, 6, 16, 254, 172, 42, 27, 182, 1, 47, 154, 0, 6, 16, 253, 172, 42]
abbrev dktX11_rawWrite_0 : List UInt8 := dkwX11_rawWrite_0 ++ dktX11_rawWrite_1
theorem dksX11_rawWrite_0 : cX11_rawWrite.data.toList.drop 0 = dktX11_rawWrite_0 := by decide +kernel
theorem dksX11_rawWrite_1 : cX11_rawWrite.data.toList.drop 22 = dktX11_rawWrite_1 := dk_seg dksX11_rawWrite_0 22 rfl rfl
theorem dksX11_rawWrite_2 : cX11_rawWrite.data.toList.drop 44 = dktX11_rawWrite_2 := dk_seg dksX11_rawWrite_1 22 rfl rfl
theorem dksX11_rawWrite_3 : cX11_rawWrite.data.toList.drop 68 = dktX11_rawWrite_3 := dk_seg dksX11_rawWrite_2 24 rfl rfl
theorem dX11_rawWrite_0 : decode cX11_rawWrite 0 = .ok (.aload_n 0, 1) := dk_42 (dk_at dksX11_rawWrite_0 0 rfl rfl)
theorem dX11_rawWrite_1 : decode cX11_rawWrite 1 = .ok (.getfield 7, 3) := dk_180 0 7 (dk_at dksX11_rawWrite_0 1 rfl rfl)
theorem dX11_rawWrite_4 : decode cX11_rawWrite 4 = .ok (.ifCond .ne 6, 3) := dk_154 0 6 (dk_at dksX11_rawWrite_0 4 rfl rfl)
theorem dX11_rawWrite_7 : decode cX11_rawWrite 7 = .ok (.bipush (-2), 2) := dk_16 254 (dk_at dksX11_rawWrite_0 7 rfl rfl)
theorem dX11_rawWrite_9 : decode cX11_rawWrite 9 = .ok (.ireturn, 1) := dk_172 (dk_at dksX11_rawWrite_0 9 rfl rfl)
theorem dX11_rawWrite_10 : decode cX11_rawWrite 10 = .ok (.aload_n 0, 1) := dk_42 (dk_at dksX11_rawWrite_0 10 rfl rfl)
theorem dX11_rawWrite_11 : decode cX11_rawWrite 11 = .ok (.iload_n 1, 1) := dk_27 (dk_at dksX11_rawWrite_0 11 rfl rfl)
theorem dX11_rawWrite_12 : decode cX11_rawWrite 12 = .ok (.invokevirtual 303, 3) := dk_182 1 47 (dk_at dksX11_rawWrite_0 12 rfl rfl)
theorem dX11_rawWrite_15 : decode cX11_rawWrite 15 = .ok (.ifCond .ne 6, 3) := dk_154 0 6 (dk_at dksX11_rawWrite_0 15 rfl rfl)
theorem dX11_rawWrite_18 : decode cX11_rawWrite 18 = .ok (.bipush (-3), 2) := dk_16 253 (dk_at dksX11_rawWrite_0 18 rfl rfl)
theorem dX11_rawWrite_20 : decode cX11_rawWrite 20 = .ok (.ireturn, 1) := dk_172 (dk_at dksX11_rawWrite_0 20 rfl rfl)
theorem dX11_rawWrite_21 : decode cX11_rawWrite 21 = .ok (.aload_n 0, 1) := dk_42 (dk_at dksX11_rawWrite_0 21 rfl rfl)
theorem dX11_rawWrite_22 : decode cX11_rawWrite 22 = .ok (.getfield 120, 3) := dk_180 0 120 (dk_at dksX11_rawWrite_1 0 rfl rfl)
theorem dX11_rawWrite_25 : decode cX11_rawWrite 25 = .ok (.iload_n 1, 1) := dk_27 (dk_at dksX11_rawWrite_1 3 rfl rfl)
theorem dX11_rawWrite_26 : decode cX11_rawWrite 26 = .ok (.iaload, 1) := dk_46 (dk_at dksX11_rawWrite_1 4 rfl rfl)
theorem dX11_rawWrite_27 : decode cX11_rawWrite 27 = .ok (.aload_n 0, 1) := dk_42 (dk_at dksX11_rawWrite_1 5 rfl rfl)
theorem dX11_rawWrite_28 : decode cX11_rawWrite 28 = .ok (.getfield 126, 3) := dk_180 0 126 (dk_at dksX11_rawWrite_1 6 rfl rfl)
theorem dX11_rawWrite_31 : decode cX11_rawWrite 31 = .ok (.sipush 128, 3) := dk_17 0 128 (dk_at dksX11_rawWrite_1 9 rfl rfl)
theorem dX11_rawWrite_34 : decode cX11_rawWrite 34 = .ok (.idiv, 1) := dk_108 (dk_at dksX11_rawWrite_1 12 rfl rfl)
theorem dX11_rawWrite_35 : decode cX11_rawWrite 35 = .ok (.if_icmp .ne 6, 3) := dk_160 0 6 (dk_at dksX11_rawWrite_1 13 rfl rfl)
theorem dX11_rawWrite_38 : decode cX11_rawWrite 38 = .ok (.bipush (-10), 2) := dk_16 246 (dk_at dksX11_rawWrite_1 16 rfl rfl)
theorem dX11_rawWrite_40 : decode cX11_rawWrite 40 = .ok (.ireturn, 1) := dk_172 (dk_at dksX11_rawWrite_1 18 rfl rfl)
theorem dX11_rawWrite_41 : decode cX11_rawWrite 41 = .ok (.aload_n 0, 1) := dk_42 (dk_at dksX11_rawWrite_1 19 rfl rfl)
theorem dX11_rawWrite_42 : decode cX11_rawWrite 42 = .ok (.iload_n 1, 1) := dk_27 (dk_at dksX11_rawWrite_1 20 rfl rfl)
theorem dX11_rawWrite_43 : decode cX11_rawWrite 43 = .ok (.aload_n 0, 1) := dk_42 (dk_at dksX11_rawWrite_1 21 rfl rfl)
theorem dX11_rawWrite_44 : decode cX11_rawWrite 44 = .ok (.getfield 120, 3) := dk_180 0 120 (dk_at dksX11_rawWrite_2 0 rfl rfl)
theorem dX11_rawWrite_47 : decode cX11_rawWrite 47 = .ok (.iload_n 1, 1) := dk_27 (dk_at dksX11_rawWrite_2 3 rfl rfl)
theorem dX11_rawWrite_48 : decode cX11_rawWrite 48 = .ok (.iaload, 1) := dk_46 (dk_at dksX11_rawWrite_2 4 rfl rfl)
theorem dX11_rawWrite_49 : decode cX11_rawWrite 49 = .ok (.iload_n 2, 1) := dk_28 (dk_at dksX11_rawWrite_2 5 rfl rfl)
theorem dX11_rawWrite_50 : decode cX11_rawWrite 50 = .ok (.invokevirtual 306, 3) := dk_182 1 50 (dk_at dksX11_rawWrite_2 6 rfl rfl)
theorem dX11_rawWrite_53 : decode cX11_rawWrite 53 = .ok (.aload_n 0, 1) := dk_42 (dk_at dksX11_rawWrite_2 9 rfl rfl)
theorem dX11_rawWrite_54 : decode cX11_rawWrite 54 = .ok (.getfield 120, 3) := dk_180 0 120 (dk_at dksX11_rawWrite_2 10 rfl rfl)
theorem dX11_rawWrite_57 : decode cX11_rawWrite 57 = .ok (.iload_n 1, 1) := dk_27 (dk_at dksX11_rawWrite_2 13 rfl rfl)
theorem dX11_rawWrite_58 : decode cX11_rawWrite 58 = .ok (.dup2, 1) := dk_92 (dk_at dksX11_rawWrite_2 14 rfl rfl)
theorem dX11_rawWrite_59 : decode cX11_rawWrite 59 = .ok (.iaload, 1) := dk_46 (dk_at dksX11_rawWrite_2 15 rfl rfl)
theorem dX11_rawWrite_60 : decode cX11_rawWrite 60 = .ok (.iconst 1, 1) := dk_4 (dk_at dksX11_rawWrite_2 16 rfl rfl)
theorem dX11_rawWrite_61 : decode cX11_rawWrite 61 = .ok (.iadd, 1) := dk_96 (dk_at dksX11_rawWrite_2 17 rfl rfl)
theorem dX11_rawWrite_62 : decode cX11_rawWrite 62 = .ok (.iastore, 1) := dk_79 (dk_at dksX11_rawWrite_2 18 rfl rfl)
theorem dX11_rawWrite_63 : decode cX11_rawWrite 63 = .ok (.aload_n 0, 1) := dk_42 (dk_at dksX11_rawWrite_2 19 rfl rfl)
theorem dX11_rawWrite_64 : decode cX11_rawWrite 64 = .ok (.getfield 120, 3) := dk_180 0 120 (dk_at dksX11_rawWrite_2 20 rfl rfl)
theorem dX11_rawWrite_67 : decode cX11_rawWrite 67 = .ok (.iload_n 1, 1) := dk_27 (dk_at dksX11_rawWrite_2 23 rfl rfl)
theorem dX11_rawWrite_68 : decode cX11_rawWrite 68 = .ok (.iaload, 1) := dk_46 (dk_at dksX11_rawWrite_3 0 rfl rfl)
theorem dX11_rawWrite_69 : decode cX11_rawWrite 69 = .ok (.iconst 1, 1) := dk_4 (dk_at dksX11_rawWrite_3 1 rfl rfl)
theorem dX11_rawWrite_70 : decode cX11_rawWrite 70 = .ok (.isub, 1) := dk_100 (dk_at dksX11_rawWrite_3 2 rfl rfl)
theorem dX11_rawWrite_71 : decode cX11_rawWrite 71 = .ok (.ireturn, 1) := dk_172 (dk_at dksX11_rawWrite_3 3 rfl rfl)
abbrev cX11_isRaw : ByteArray := prog_12_method_78_code
def yX11_isRaw : MethodName := ⟨RX11, "isRaw", "(I)Z"⟩
def dkwX11_isRaw_0 : List UInt8 := [27, 155, 0, 15, 27, 42, 180, 0, 130, 162, 0, 7, 4, 167, 0, 4, 3, 172]
abbrev dktX11_isRaw_0 : List UInt8 := dkwX11_isRaw_0 ++ []
theorem dksX11_isRaw_0 : cX11_isRaw.data.toList.drop 0 = dktX11_isRaw_0 := by decide +kernel
theorem dX11_isRaw_0 : decode cX11_isRaw 0 = .ok (.iload_n 1, 1) := dk_27 (dk_at dksX11_isRaw_0 0 rfl rfl)
theorem dX11_isRaw_1 : decode cX11_isRaw 1 = .ok (.ifCond .lt 15, 3) := dk_155 0 15 (dk_at dksX11_isRaw_0 1 rfl rfl)
theorem dX11_isRaw_4 : decode cX11_isRaw 4 = .ok (.iload_n 1, 1) := dk_27 (dk_at dksX11_isRaw_0 4 rfl rfl)
theorem dX11_isRaw_5 : decode cX11_isRaw 5 = .ok (.aload_n 0, 1) := dk_42 (dk_at dksX11_isRaw_0 5 rfl rfl)
theorem dX11_isRaw_6 : decode cX11_isRaw 6 = .ok (.getfield 130, 3) := dk_180 0 130 (dk_at dksX11_isRaw_0 6 rfl rfl)
theorem dX11_isRaw_9 : decode cX11_isRaw 9 = .ok (.if_icmp .ge 7, 3) := dk_162 0 7 (dk_at dksX11_isRaw_0 9 rfl rfl)
theorem dX11_isRaw_12 : decode cX11_isRaw 12 = .ok (.iconst 1, 1) := dk_4 (dk_at dksX11_isRaw_0 12 rfl rfl)
theorem dX11_isRaw_13 : decode cX11_isRaw 13 = .ok (.goto 4, 3) := dk_167 0 4 (dk_at dksX11_isRaw_0 13 rfl rfl)
theorem dX11_isRaw_16 : decode cX11_isRaw 16 = .ok (.iconst 0, 1) := dk_3 (dk_at dksX11_isRaw_0 16 rfl rfl)
theorem dX11_isRaw_17 : decode cX11_isRaw 17 = .ok (.ireturn, 1) := dk_172 (dk_at dksX11_isRaw_0 17 rfl rfl)
abbrev cX11_rawPage : ByteArray := prog_12_method_79_code
def yX11_rawPage : MethodName := ⟨RX11, "rawPage", "(III)V"⟩
def dkwX11_rawPage_1 : List UInt8 := [104, 96, 21, 4, 96, 29, 6, 21, 4, 104, 96, 145, 84, 132, 4, 1, 167, 255, 219, 177]
abbrev dktX11_rawPage_1 : List UInt8 := dkwX11_rawPage_1 ++ []
def dkwX11_rawPage_0 : List UInt8 := [3, 54, 4, 21, 4, 17, 0, 128, 162, 0, 35, 42, 180, 0, 123, 17, 15, 0, 27, 104, 17, 0, 128, 28]
abbrev dktX11_rawPage_0 : List UInt8 := dkwX11_rawPage_0 ++ dktX11_rawPage_1
theorem dksX11_rawPage_0 : cX11_rawPage.data.toList.drop 0 = dktX11_rawPage_0 := by decide +kernel
theorem dksX11_rawPage_1 : cX11_rawPage.data.toList.drop 24 = dktX11_rawPage_1 := dk_seg dksX11_rawPage_0 24 rfl rfl
theorem dX11_rawPage_0 : decode cX11_rawPage 0 = .ok (.iconst 0, 1) := dk_3 (dk_at dksX11_rawPage_0 0 rfl rfl)
theorem dX11_rawPage_1 : decode cX11_rawPage 1 = .ok (.istore 4, 2) := dk_54 4 (dk_at dksX11_rawPage_0 1 rfl rfl)
theorem dX11_rawPage_3 : decode cX11_rawPage 3 = .ok (.iload 4, 2) := dk_21 4 (dk_at dksX11_rawPage_0 3 rfl rfl)
theorem dX11_rawPage_5 : decode cX11_rawPage 5 = .ok (.sipush 128, 3) := dk_17 0 128 (dk_at dksX11_rawPage_0 5 rfl rfl)
theorem dX11_rawPage_8 : decode cX11_rawPage 8 = .ok (.if_icmp .ge 35, 3) := dk_162 0 35 (dk_at dksX11_rawPage_0 8 rfl rfl)
theorem dX11_rawPage_11 : decode cX11_rawPage 11 = .ok (.aload_n 0, 1) := dk_42 (dk_at dksX11_rawPage_0 11 rfl rfl)
theorem dX11_rawPage_12 : decode cX11_rawPage 12 = .ok (.getfield 123, 3) := dk_180 0 123 (dk_at dksX11_rawPage_0 12 rfl rfl)
theorem dX11_rawPage_15 : decode cX11_rawPage 15 = .ok (.sipush 3840, 3) := dk_17 15 0 (dk_at dksX11_rawPage_0 15 rfl rfl)
theorem dX11_rawPage_18 : decode cX11_rawPage 18 = .ok (.iload_n 1, 1) := dk_27 (dk_at dksX11_rawPage_0 18 rfl rfl)
theorem dX11_rawPage_19 : decode cX11_rawPage 19 = .ok (.imul, 1) := dk_104 (dk_at dksX11_rawPage_0 19 rfl rfl)
theorem dX11_rawPage_20 : decode cX11_rawPage 20 = .ok (.sipush 128, 3) := dk_17 0 128 (dk_at dksX11_rawPage_0 20 rfl rfl)
theorem dX11_rawPage_23 : decode cX11_rawPage 23 = .ok (.iload_n 2, 1) := dk_28 (dk_at dksX11_rawPage_0 23 rfl rfl)
theorem dX11_rawPage_24 : decode cX11_rawPage 24 = .ok (.imul, 1) := dk_104 (dk_at dksX11_rawPage_1 0 rfl rfl)
theorem dX11_rawPage_25 : decode cX11_rawPage 25 = .ok (.iadd, 1) := dk_96 (dk_at dksX11_rawPage_1 1 rfl rfl)
theorem dX11_rawPage_26 : decode cX11_rawPage 26 = .ok (.iload 4, 2) := dk_21 4 (dk_at dksX11_rawPage_1 2 rfl rfl)
theorem dX11_rawPage_28 : decode cX11_rawPage 28 = .ok (.iadd, 1) := dk_96 (dk_at dksX11_rawPage_1 4 rfl rfl)
theorem dX11_rawPage_29 : decode cX11_rawPage 29 = .ok (.iload_n 3, 1) := dk_29 (dk_at dksX11_rawPage_1 5 rfl rfl)
theorem dX11_rawPage_30 : decode cX11_rawPage 30 = .ok (.iconst 3, 1) := dk_6 (dk_at dksX11_rawPage_1 6 rfl rfl)
theorem dX11_rawPage_31 : decode cX11_rawPage 31 = .ok (.iload 4, 2) := dk_21 4 (dk_at dksX11_rawPage_1 7 rfl rfl)
theorem dX11_rawPage_33 : decode cX11_rawPage 33 = .ok (.imul, 1) := dk_104 (dk_at dksX11_rawPage_1 9 rfl rfl)
theorem dX11_rawPage_34 : decode cX11_rawPage 34 = .ok (.iadd, 1) := dk_96 (dk_at dksX11_rawPage_1 10 rfl rfl)
theorem dX11_rawPage_35 : decode cX11_rawPage 35 = .ok (.i2b, 1) := dk_145 (dk_at dksX11_rawPage_1 11 rfl rfl)
theorem dX11_rawPage_36 : decode cX11_rawPage 36 = .ok (.bastore, 1) := dk_84 (dk_at dksX11_rawPage_1 12 rfl rfl)
theorem dX11_rawPage_37 : decode cX11_rawPage 37 = .ok (.iinc 4 1, 3) := dk_132 4 1 (dk_at dksX11_rawPage_1 13 rfl rfl)
theorem dX11_rawPage_40 : decode cX11_rawPage 40 = .ok (.goto (-37), 3) := dk_167 255 219 (dk_at dksX11_rawPage_1 16 rfl rfl)
theorem dX11_rawPage_43 : decode cX11_rawPage 43 = .ok (.return_, 1) := dk_177 (dk_at dksX11_rawPage_1 19 rfl rfl)
abbrev cX11_rawChange : ByteArray := prog_12_method_81_code
def yX11_rawChange : MethodName := ⟨RX11, "rawChange", "(III)I"⟩
def dkwX11_rawChange_3 : List UInt8 := [167, 255, 234, 42, 180, 0, 120, 27, 28, 79, 21, 4, 172]
abbrev dktX11_rawChange_3 : List UInt8 := dkwX11_rawChange_3 ++ []
def dkwX11_rawChange_2 : List UInt8 := [21, 5, 28, 162, 0, 22, 42, 27, 21, 5, 29, 8, 21, 5, 104, 96, 182, 1, 50, 132, 5, 1]
abbrev dktX11_rawChange_2 : List UInt8 := dkwX11_rawChange_2 ++ dktX11_rawChange_3
def dkwX11_rawChange_1 : List UInt8 := [180, 0, 126, 17, 0, 128, 108, 164, 0, 6, 16, 253, 172, 42, 180, 0, 120, 27, 46, 54, 4, 3, 54, 5]
abbrev dktX11_rawChange_1 : List UInt8 := dkwX11_rawChange_1 ++ dktX11_rawChange_2
def dkwX11_rawChange_0 : List UInt8 := [42, 180, 0, 7, 154, 0, 6, 16, 254, 172, 42, 27, 182, 1, 47, 153, 0, 19, 28, 155, 0, 15, 28, 42]
abbrev dktX11_rawChange_0 : List UInt8 := dkwX11_rawChange_0 ++ dktX11_rawChange_1
theorem dksX11_rawChange_0 : cX11_rawChange.data.toList.drop 0 = dktX11_rawChange_0 := by decide +kernel
theorem dksX11_rawChange_1 : cX11_rawChange.data.toList.drop 24 = dktX11_rawChange_1 := dk_seg dksX11_rawChange_0 24 rfl rfl
theorem dksX11_rawChange_2 : cX11_rawChange.data.toList.drop 48 = dktX11_rawChange_2 := dk_seg dksX11_rawChange_1 24 rfl rfl
theorem dksX11_rawChange_3 : cX11_rawChange.data.toList.drop 70 = dktX11_rawChange_3 := dk_seg dksX11_rawChange_2 22 rfl rfl
theorem dX11_rawChange_0 : decode cX11_rawChange 0 = .ok (.aload_n 0, 1) := dk_42 (dk_at dksX11_rawChange_0 0 rfl rfl)
theorem dX11_rawChange_1 : decode cX11_rawChange 1 = .ok (.getfield 7, 3) := dk_180 0 7 (dk_at dksX11_rawChange_0 1 rfl rfl)
theorem dX11_rawChange_4 : decode cX11_rawChange 4 = .ok (.ifCond .ne 6, 3) := dk_154 0 6 (dk_at dksX11_rawChange_0 4 rfl rfl)
theorem dX11_rawChange_7 : decode cX11_rawChange 7 = .ok (.bipush (-2), 2) := dk_16 254 (dk_at dksX11_rawChange_0 7 rfl rfl)
theorem dX11_rawChange_9 : decode cX11_rawChange 9 = .ok (.ireturn, 1) := dk_172 (dk_at dksX11_rawChange_0 9 rfl rfl)
theorem dX11_rawChange_10 : decode cX11_rawChange 10 = .ok (.aload_n 0, 1) := dk_42 (dk_at dksX11_rawChange_0 10 rfl rfl)
theorem dX11_rawChange_11 : decode cX11_rawChange 11 = .ok (.iload_n 1, 1) := dk_27 (dk_at dksX11_rawChange_0 11 rfl rfl)
theorem dX11_rawChange_12 : decode cX11_rawChange 12 = .ok (.invokevirtual 303, 3) := dk_182 1 47 (dk_at dksX11_rawChange_0 12 rfl rfl)
theorem dX11_rawChange_15 : decode cX11_rawChange 15 = .ok (.ifCond .eq 19, 3) := dk_153 0 19 (dk_at dksX11_rawChange_0 15 rfl rfl)
theorem dX11_rawChange_18 : decode cX11_rawChange 18 = .ok (.iload_n 2, 1) := dk_28 (dk_at dksX11_rawChange_0 18 rfl rfl)
theorem dX11_rawChange_19 : decode cX11_rawChange 19 = .ok (.ifCond .lt 15, 3) := dk_155 0 15 (dk_at dksX11_rawChange_0 19 rfl rfl)
theorem dX11_rawChange_22 : decode cX11_rawChange 22 = .ok (.iload_n 2, 1) := dk_28 (dk_at dksX11_rawChange_0 22 rfl rfl)
theorem dX11_rawChange_23 : decode cX11_rawChange 23 = .ok (.aload_n 0, 1) := dk_42 (dk_at dksX11_rawChange_0 23 rfl rfl)
theorem dX11_rawChange_24 : decode cX11_rawChange 24 = .ok (.getfield 126, 3) := dk_180 0 126 (dk_at dksX11_rawChange_1 0 rfl rfl)
theorem dX11_rawChange_27 : decode cX11_rawChange 27 = .ok (.sipush 128, 3) := dk_17 0 128 (dk_at dksX11_rawChange_1 3 rfl rfl)
theorem dX11_rawChange_30 : decode cX11_rawChange 30 = .ok (.idiv, 1) := dk_108 (dk_at dksX11_rawChange_1 6 rfl rfl)
theorem dX11_rawChange_31 : decode cX11_rawChange 31 = .ok (.if_icmp .le 6, 3) := dk_164 0 6 (dk_at dksX11_rawChange_1 7 rfl rfl)
theorem dX11_rawChange_34 : decode cX11_rawChange 34 = .ok (.bipush (-3), 2) := dk_16 253 (dk_at dksX11_rawChange_1 10 rfl rfl)
theorem dX11_rawChange_36 : decode cX11_rawChange 36 = .ok (.ireturn, 1) := dk_172 (dk_at dksX11_rawChange_1 12 rfl rfl)
theorem dX11_rawChange_37 : decode cX11_rawChange 37 = .ok (.aload_n 0, 1) := dk_42 (dk_at dksX11_rawChange_1 13 rfl rfl)
theorem dX11_rawChange_38 : decode cX11_rawChange 38 = .ok (.getfield 120, 3) := dk_180 0 120 (dk_at dksX11_rawChange_1 14 rfl rfl)
theorem dX11_rawChange_41 : decode cX11_rawChange 41 = .ok (.iload_n 1, 1) := dk_27 (dk_at dksX11_rawChange_1 17 rfl rfl)
theorem dX11_rawChange_42 : decode cX11_rawChange 42 = .ok (.iaload, 1) := dk_46 (dk_at dksX11_rawChange_1 18 rfl rfl)
theorem dX11_rawChange_43 : decode cX11_rawChange 43 = .ok (.istore 4, 2) := dk_54 4 (dk_at dksX11_rawChange_1 19 rfl rfl)
theorem dX11_rawChange_45 : decode cX11_rawChange 45 = .ok (.iconst 0, 1) := dk_3 (dk_at dksX11_rawChange_1 21 rfl rfl)
theorem dX11_rawChange_46 : decode cX11_rawChange 46 = .ok (.istore 5, 2) := dk_54 5 (dk_at dksX11_rawChange_1 22 rfl rfl)
theorem dX11_rawChange_48 : decode cX11_rawChange 48 = .ok (.iload 5, 2) := dk_21 5 (dk_at dksX11_rawChange_2 0 rfl rfl)
theorem dX11_rawChange_50 : decode cX11_rawChange 50 = .ok (.iload_n 2, 1) := dk_28 (dk_at dksX11_rawChange_2 2 rfl rfl)
theorem dX11_rawChange_51 : decode cX11_rawChange 51 = .ok (.if_icmp .ge 22, 3) := dk_162 0 22 (dk_at dksX11_rawChange_2 3 rfl rfl)
theorem dX11_rawChange_54 : decode cX11_rawChange 54 = .ok (.aload_n 0, 1) := dk_42 (dk_at dksX11_rawChange_2 6 rfl rfl)
theorem dX11_rawChange_55 : decode cX11_rawChange 55 = .ok (.iload_n 1, 1) := dk_27 (dk_at dksX11_rawChange_2 7 rfl rfl)
theorem dX11_rawChange_56 : decode cX11_rawChange 56 = .ok (.iload 5, 2) := dk_21 5 (dk_at dksX11_rawChange_2 8 rfl rfl)
theorem dX11_rawChange_58 : decode cX11_rawChange 58 = .ok (.iload_n 3, 1) := dk_29 (dk_at dksX11_rawChange_2 10 rfl rfl)
theorem dX11_rawChange_59 : decode cX11_rawChange 59 = .ok (.iconst 5, 1) := dk_8 (dk_at dksX11_rawChange_2 11 rfl rfl)
theorem dX11_rawChange_60 : decode cX11_rawChange 60 = .ok (.iload 5, 2) := dk_21 5 (dk_at dksX11_rawChange_2 12 rfl rfl)
theorem dX11_rawChange_62 : decode cX11_rawChange 62 = .ok (.imul, 1) := dk_104 (dk_at dksX11_rawChange_2 14 rfl rfl)
theorem dX11_rawChange_63 : decode cX11_rawChange 63 = .ok (.iadd, 1) := dk_96 (dk_at dksX11_rawChange_2 15 rfl rfl)
theorem dX11_rawChange_64 : decode cX11_rawChange 64 = .ok (.invokevirtual 306, 3) := dk_182 1 50 (dk_at dksX11_rawChange_2 16 rfl rfl)
theorem dX11_rawChange_67 : decode cX11_rawChange 67 = .ok (.iinc 5 1, 3) := dk_132 5 1 (dk_at dksX11_rawChange_2 19 rfl rfl)
theorem dX11_rawChange_70 : decode cX11_rawChange 70 = .ok (.goto (-22), 3) := dk_167 255 234 (dk_at dksX11_rawChange_3 0 rfl rfl)
theorem dX11_rawChange_73 : decode cX11_rawChange 73 = .ok (.aload_n 0, 1) := dk_42 (dk_at dksX11_rawChange_3 3 rfl rfl)
theorem dX11_rawChange_74 : decode cX11_rawChange 74 = .ok (.getfield 120, 3) := dk_180 0 120 (dk_at dksX11_rawChange_3 4 rfl rfl)
theorem dX11_rawChange_77 : decode cX11_rawChange 77 = .ok (.iload_n 1, 1) := dk_27 (dk_at dksX11_rawChange_3 7 rfl rfl)
theorem dX11_rawChange_78 : decode cX11_rawChange 78 = .ok (.iload_n 2, 1) := dk_28 (dk_at dksX11_rawChange_3 8 rfl rfl)
theorem dX11_rawChange_79 : decode cX11_rawChange 79 = .ok (.iastore, 1) := dk_79 (dk_at dksX11_rawChange_3 9 rfl rfl)
theorem dX11_rawChange_80 : decode cX11_rawChange 80 = .ok (.iload 4, 2) := dk_21 4 (dk_at dksX11_rawChange_3 10 rfl rfl)
theorem dX11_rawChange_82 : decode cX11_rawChange 82 = .ok (.ireturn, 1) := dk_172 (dk_at dksX11_rawChange_3 12 rfl rfl)
abbrev cX11_rawByte : ByteArray := prog_12_method_82_code
def yX11_rawByte : MethodName := ⟨RX11, "rawByte", "(II)I"⟩
def dkwX11_rawByte_2 : List UInt8 := [27, 104, 28, 96, 51, 17, 0, 255, 126, 167, 0, 4, 2, 172]
abbrev dktX11_rawByte_2 : List UInt8 := dkwX11_rawByte_2 ++ []
def dkwX11_rawByte_1 : List UInt8 := [155, 0, 36, 28, 17, 0, 128, 42, 180, 0, 120, 27, 46, 104, 162, 0, 22, 42, 180, 0, 123, 17, 15, 0]
abbrev dktX11_rawByte_1 : List UInt8 := dkwX11_rawByte_1 ++ dktX11_rawByte_2
def dkwX11_rawByte_0 : List UInt8 := [42, 180, 0, 7, 154, 0, 6, 16, 254, 172, 42, 27, 182, 1, 47, 154, 0, 6, 16, 253, 172, 28]
abbrev dktX11_rawByte_0 : List UInt8 := dkwX11_rawByte_0 ++ dktX11_rawByte_1
theorem dksX11_rawByte_0 : cX11_rawByte.data.toList.drop 0 = dktX11_rawByte_0 := by decide +kernel
theorem dksX11_rawByte_1 : cX11_rawByte.data.toList.drop 22 = dktX11_rawByte_1 := dk_seg dksX11_rawByte_0 22 rfl rfl
theorem dksX11_rawByte_2 : cX11_rawByte.data.toList.drop 46 = dktX11_rawByte_2 := dk_seg dksX11_rawByte_1 24 rfl rfl
theorem dX11_rawByte_0 : decode cX11_rawByte 0 = .ok (.aload_n 0, 1) := dk_42 (dk_at dksX11_rawByte_0 0 rfl rfl)
theorem dX11_rawByte_1 : decode cX11_rawByte 1 = .ok (.getfield 7, 3) := dk_180 0 7 (dk_at dksX11_rawByte_0 1 rfl rfl)
theorem dX11_rawByte_4 : decode cX11_rawByte 4 = .ok (.ifCond .ne 6, 3) := dk_154 0 6 (dk_at dksX11_rawByte_0 4 rfl rfl)
theorem dX11_rawByte_7 : decode cX11_rawByte 7 = .ok (.bipush (-2), 2) := dk_16 254 (dk_at dksX11_rawByte_0 7 rfl rfl)
theorem dX11_rawByte_9 : decode cX11_rawByte 9 = .ok (.ireturn, 1) := dk_172 (dk_at dksX11_rawByte_0 9 rfl rfl)
theorem dX11_rawByte_10 : decode cX11_rawByte 10 = .ok (.aload_n 0, 1) := dk_42 (dk_at dksX11_rawByte_0 10 rfl rfl)
theorem dX11_rawByte_11 : decode cX11_rawByte 11 = .ok (.iload_n 1, 1) := dk_27 (dk_at dksX11_rawByte_0 11 rfl rfl)
theorem dX11_rawByte_12 : decode cX11_rawByte 12 = .ok (.invokevirtual 303, 3) := dk_182 1 47 (dk_at dksX11_rawByte_0 12 rfl rfl)
theorem dX11_rawByte_15 : decode cX11_rawByte 15 = .ok (.ifCond .ne 6, 3) := dk_154 0 6 (dk_at dksX11_rawByte_0 15 rfl rfl)
theorem dX11_rawByte_18 : decode cX11_rawByte 18 = .ok (.bipush (-3), 2) := dk_16 253 (dk_at dksX11_rawByte_0 18 rfl rfl)
theorem dX11_rawByte_20 : decode cX11_rawByte 20 = .ok (.ireturn, 1) := dk_172 (dk_at dksX11_rawByte_0 20 rfl rfl)
theorem dX11_rawByte_21 : decode cX11_rawByte 21 = .ok (.iload_n 2, 1) := dk_28 (dk_at dksX11_rawByte_0 21 rfl rfl)
theorem dX11_rawByte_22 : decode cX11_rawByte 22 = .ok (.ifCond .lt 36, 3) := dk_155 0 36 (dk_at dksX11_rawByte_1 0 rfl rfl)
theorem dX11_rawByte_25 : decode cX11_rawByte 25 = .ok (.iload_n 2, 1) := dk_28 (dk_at dksX11_rawByte_1 3 rfl rfl)
theorem dX11_rawByte_26 : decode cX11_rawByte 26 = .ok (.sipush 128, 3) := dk_17 0 128 (dk_at dksX11_rawByte_1 4 rfl rfl)
theorem dX11_rawByte_29 : decode cX11_rawByte 29 = .ok (.aload_n 0, 1) := dk_42 (dk_at dksX11_rawByte_1 7 rfl rfl)
theorem dX11_rawByte_30 : decode cX11_rawByte 30 = .ok (.getfield 120, 3) := dk_180 0 120 (dk_at dksX11_rawByte_1 8 rfl rfl)
theorem dX11_rawByte_33 : decode cX11_rawByte 33 = .ok (.iload_n 1, 1) := dk_27 (dk_at dksX11_rawByte_1 11 rfl rfl)
theorem dX11_rawByte_34 : decode cX11_rawByte 34 = .ok (.iaload, 1) := dk_46 (dk_at dksX11_rawByte_1 12 rfl rfl)
theorem dX11_rawByte_35 : decode cX11_rawByte 35 = .ok (.imul, 1) := dk_104 (dk_at dksX11_rawByte_1 13 rfl rfl)
theorem dX11_rawByte_36 : decode cX11_rawByte 36 = .ok (.if_icmp .ge 22, 3) := dk_162 0 22 (dk_at dksX11_rawByte_1 14 rfl rfl)
theorem dX11_rawByte_39 : decode cX11_rawByte 39 = .ok (.aload_n 0, 1) := dk_42 (dk_at dksX11_rawByte_1 17 rfl rfl)
theorem dX11_rawByte_40 : decode cX11_rawByte 40 = .ok (.getfield 123, 3) := dk_180 0 123 (dk_at dksX11_rawByte_1 18 rfl rfl)
theorem dX11_rawByte_43 : decode cX11_rawByte 43 = .ok (.sipush 3840, 3) := dk_17 15 0 (dk_at dksX11_rawByte_1 21 rfl rfl)
theorem dX11_rawByte_46 : decode cX11_rawByte 46 = .ok (.iload_n 1, 1) := dk_27 (dk_at dksX11_rawByte_2 0 rfl rfl)
theorem dX11_rawByte_47 : decode cX11_rawByte 47 = .ok (.imul, 1) := dk_104 (dk_at dksX11_rawByte_2 1 rfl rfl)
theorem dX11_rawByte_48 : decode cX11_rawByte 48 = .ok (.iload_n 2, 1) := dk_28 (dk_at dksX11_rawByte_2 2 rfl rfl)
theorem dX11_rawByte_49 : decode cX11_rawByte 49 = .ok (.iadd, 1) := dk_96 (dk_at dksX11_rawByte_2 3 rfl rfl)
theorem dX11_rawByte_50 : decode cX11_rawByte 50 = .ok (.baload, 1) := dk_51 (dk_at dksX11_rawByte_2 4 rfl rfl)
theorem dX11_rawByte_51 : decode cX11_rawByte 51 = .ok (.sipush 255, 3) := dk_17 0 255 (dk_at dksX11_rawByte_2 5 rfl rfl)
theorem dX11_rawByte_54 : decode cX11_rawByte 54 = .ok (.iand, 1) := dk_126 (dk_at dksX11_rawByte_2 8 rfl rfl)
theorem dX11_rawByte_55 : decode cX11_rawByte 55 = .ok (.goto 4, 3) := dk_167 0 4 (dk_at dksX11_rawByte_2 9 rfl rfl)
theorem dX11_rawByte_58 : decode cX11_rawByte 58 = .ok (.iconst (-1), 1) := dk_2 (dk_at dksX11_rawByte_2 12 rfl rfl)
theorem dX11_rawByte_59 : decode cX11_rawByte 59 = .ok (.ireturn, 1) := dk_172 (dk_at dksX11_rawByte_2 13 rfl rfl)
abbrev cX11_rawPages : ByteArray := prog_12_method_83_code
def yX11_rawPages : MethodName := ⟨RX11, "rawPages", "(I)I"⟩
def dkwX11_rawPages_1 : List UInt8 := [27, 46, 167, 0, 5, 16, 253, 172]
abbrev dktX11_rawPages_1 : List UInt8 := dkwX11_rawPages_1 ++ []
def dkwX11_rawPages_0 : List UInt8 := [42, 180, 0, 7, 154, 0, 8, 16, 254, 167, 0, 22, 42, 27, 182, 1, 47, 153, 0, 12, 42, 180, 0, 120]
abbrev dktX11_rawPages_0 : List UInt8 := dkwX11_rawPages_0 ++ dktX11_rawPages_1
theorem dksX11_rawPages_0 : cX11_rawPages.data.toList.drop 0 = dktX11_rawPages_0 := by decide +kernel
theorem dksX11_rawPages_1 : cX11_rawPages.data.toList.drop 24 = dktX11_rawPages_1 := dk_seg dksX11_rawPages_0 24 rfl rfl
theorem dX11_rawPages_0 : decode cX11_rawPages 0 = .ok (.aload_n 0, 1) := dk_42 (dk_at dksX11_rawPages_0 0 rfl rfl)
theorem dX11_rawPages_1 : decode cX11_rawPages 1 = .ok (.getfield 7, 3) := dk_180 0 7 (dk_at dksX11_rawPages_0 1 rfl rfl)
theorem dX11_rawPages_4 : decode cX11_rawPages 4 = .ok (.ifCond .ne 8, 3) := dk_154 0 8 (dk_at dksX11_rawPages_0 4 rfl rfl)
theorem dX11_rawPages_7 : decode cX11_rawPages 7 = .ok (.bipush (-2), 2) := dk_16 254 (dk_at dksX11_rawPages_0 7 rfl rfl)
theorem dX11_rawPages_9 : decode cX11_rawPages 9 = .ok (.goto 22, 3) := dk_167 0 22 (dk_at dksX11_rawPages_0 9 rfl rfl)
theorem dX11_rawPages_12 : decode cX11_rawPages 12 = .ok (.aload_n 0, 1) := dk_42 (dk_at dksX11_rawPages_0 12 rfl rfl)
theorem dX11_rawPages_13 : decode cX11_rawPages 13 = .ok (.iload_n 1, 1) := dk_27 (dk_at dksX11_rawPages_0 13 rfl rfl)
theorem dX11_rawPages_14 : decode cX11_rawPages 14 = .ok (.invokevirtual 303, 3) := dk_182 1 47 (dk_at dksX11_rawPages_0 14 rfl rfl)
theorem dX11_rawPages_17 : decode cX11_rawPages 17 = .ok (.ifCond .eq 12, 3) := dk_153 0 12 (dk_at dksX11_rawPages_0 17 rfl rfl)
theorem dX11_rawPages_20 : decode cX11_rawPages 20 = .ok (.aload_n 0, 1) := dk_42 (dk_at dksX11_rawPages_0 20 rfl rfl)
theorem dX11_rawPages_21 : decode cX11_rawPages 21 = .ok (.getfield 120, 3) := dk_180 0 120 (dk_at dksX11_rawPages_0 21 rfl rfl)
theorem dX11_rawPages_24 : decode cX11_rawPages 24 = .ok (.iload_n 1, 1) := dk_27 (dk_at dksX11_rawPages_1 0 rfl rfl)
theorem dX11_rawPages_25 : decode cX11_rawPages 25 = .ok (.iaload, 1) := dk_46 (dk_at dksX11_rawPages_1 1 rfl rfl)
theorem dX11_rawPages_26 : decode cX11_rawPages 26 = .ok (.goto 5, 3) := dk_167 0 5 (dk_at dksX11_rawPages_1 2 rfl rfl)
theorem dX11_rawPages_29 : decode cX11_rawPages 29 = .ok (.bipush (-3), 2) := dk_16 253 (dk_at dksX11_rawPages_1 5 rfl rfl)
theorem dX11_rawPages_31 : decode cX11_rawPages 31 = .ok (.ireturn, 1) := dk_172 (dk_at dksX11_rawPages_1 7 rfl rfl)
abbrev cX11_sync : ByteArray := prog_12_method_84_code
def yX11_sync : MethodName := ⟨RX11, "sync", "()I"⟩
def dkwX11_sync_1 : List UInt8 := [42, 180, 0, 136, 16, 127, 96, 17, 0, 128, 108, 17, 0, 128, 104, 181, 0, 136, 27, 172]
abbrev dktX11_sync_1 : List UInt8 := dkwX11_sync_1 ++ []
def dkwX11_sync_0 : List UInt8 := [42, 180, 0, 7, 154, 0, 6, 16, 254, 172, 42, 180, 0, 195, 60, 42, 42, 180, 0, 195, 182, 0, 201, 42]
abbrev dktX11_sync_0 : List UInt8 := dkwX11_sync_0 ++ dktX11_sync_1
theorem dksX11_sync_0 : cX11_sync.data.toList.drop 0 = dktX11_sync_0 := by decide +kernel
theorem dksX11_sync_1 : cX11_sync.data.toList.drop 24 = dktX11_sync_1 := dk_seg dksX11_sync_0 24 rfl rfl
theorem dX11_sync_0 : decode cX11_sync 0 = .ok (.aload_n 0, 1) := dk_42 (dk_at dksX11_sync_0 0 rfl rfl)
theorem dX11_sync_1 : decode cX11_sync 1 = .ok (.getfield 7, 3) := dk_180 0 7 (dk_at dksX11_sync_0 1 rfl rfl)
theorem dX11_sync_4 : decode cX11_sync 4 = .ok (.ifCond .ne 6, 3) := dk_154 0 6 (dk_at dksX11_sync_0 4 rfl rfl)
theorem dX11_sync_7 : decode cX11_sync 7 = .ok (.bipush (-2), 2) := dk_16 254 (dk_at dksX11_sync_0 7 rfl rfl)
theorem dX11_sync_9 : decode cX11_sync 9 = .ok (.ireturn, 1) := dk_172 (dk_at dksX11_sync_0 9 rfl rfl)
theorem dX11_sync_10 : decode cX11_sync 10 = .ok (.aload_n 0, 1) := dk_42 (dk_at dksX11_sync_0 10 rfl rfl)
theorem dX11_sync_11 : decode cX11_sync 11 = .ok (.getfield 195, 3) := dk_180 0 195 (dk_at dksX11_sync_0 11 rfl rfl)
theorem dX11_sync_14 : decode cX11_sync 14 = .ok (.istore_n 1, 1) := dk_60 (dk_at dksX11_sync_0 14 rfl rfl)
theorem dX11_sync_15 : decode cX11_sync 15 = .ok (.aload_n 0, 1) := dk_42 (dk_at dksX11_sync_0 15 rfl rfl)
theorem dX11_sync_16 : decode cX11_sync 16 = .ok (.aload_n 0, 1) := dk_42 (dk_at dksX11_sync_0 16 rfl rfl)
theorem dX11_sync_17 : decode cX11_sync 17 = .ok (.getfield 195, 3) := dk_180 0 195 (dk_at dksX11_sync_0 17 rfl rfl)
theorem dX11_sync_20 : decode cX11_sync 20 = .ok (.invokevirtual 201, 3) := dk_182 0 201 (dk_at dksX11_sync_0 20 rfl rfl)
theorem dX11_sync_23 : decode cX11_sync 23 = .ok (.aload_n 0, 1) := dk_42 (dk_at dksX11_sync_0 23 rfl rfl)
theorem dX11_sync_24 : decode cX11_sync 24 = .ok (.aload_n 0, 1) := dk_42 (dk_at dksX11_sync_1 0 rfl rfl)
theorem dX11_sync_25 : decode cX11_sync 25 = .ok (.getfield 136, 3) := dk_180 0 136 (dk_at dksX11_sync_1 1 rfl rfl)
theorem dX11_sync_28 : decode cX11_sync 28 = .ok (.bipush 127, 2) := dk_16 127 (dk_at dksX11_sync_1 4 rfl rfl)
theorem dX11_sync_30 : decode cX11_sync 30 = .ok (.iadd, 1) := dk_96 (dk_at dksX11_sync_1 6 rfl rfl)
theorem dX11_sync_31 : decode cX11_sync 31 = .ok (.sipush 128, 3) := dk_17 0 128 (dk_at dksX11_sync_1 7 rfl rfl)
theorem dX11_sync_34 : decode cX11_sync 34 = .ok (.idiv, 1) := dk_108 (dk_at dksX11_sync_1 10 rfl rfl)
theorem dX11_sync_35 : decode cX11_sync 35 = .ok (.sipush 128, 3) := dk_17 0 128 (dk_at dksX11_sync_1 11 rfl rfl)
theorem dX11_sync_38 : decode cX11_sync 38 = .ok (.imul, 1) := dk_104 (dk_at dksX11_sync_1 14 rfl rfl)
theorem dX11_sync_39 : decode cX11_sync 39 = .ok (.putfield 136, 3) := dk_181 0 136 (dk_at dksX11_sync_1 15 rfl rfl)
theorem dX11_sync_42 : decode cX11_sync 42 = .ok (.iload_n 1, 1) := dk_27 (dk_at dksX11_sync_1 18 rfl rfl)
theorem dX11_sync_43 : decode cX11_sync 43 = .ok (.ireturn, 1) := dk_172 (dk_at dksX11_sync_1 19 rfl rfl)
abbrev cX11_waiting : ByteArray := prog_12_method_85_code
def yX11_waiting : MethodName := ⟨RX11, "waiting", "()I"⟩
def dkwX11_waiting_0 : List UInt8 := [42, 180, 0, 7, 153, 0, 10, 42, 180, 0, 195, 167, 0, 5, 16, 254, 172]
abbrev dktX11_waiting_0 : List UInt8 := dkwX11_waiting_0 ++ []
theorem dksX11_waiting_0 : cX11_waiting.data.toList.drop 0 = dktX11_waiting_0 := by decide +kernel
theorem dX11_waiting_0 : decode cX11_waiting 0 = .ok (.aload_n 0, 1) := dk_42 (dk_at dksX11_waiting_0 0 rfl rfl)
theorem dX11_waiting_1 : decode cX11_waiting 1 = .ok (.getfield 7, 3) := dk_180 0 7 (dk_at dksX11_waiting_0 1 rfl rfl)
theorem dX11_waiting_4 : decode cX11_waiting 4 = .ok (.ifCond .eq 10, 3) := dk_153 0 10 (dk_at dksX11_waiting_0 4 rfl rfl)
theorem dX11_waiting_7 : decode cX11_waiting 7 = .ok (.aload_n 0, 1) := dk_42 (dk_at dksX11_waiting_0 7 rfl rfl)
theorem dX11_waiting_8 : decode cX11_waiting 8 = .ok (.getfield 195, 3) := dk_180 0 195 (dk_at dksX11_waiting_0 8 rfl rfl)
theorem dX11_waiting_11 : decode cX11_waiting 11 = .ok (.goto 5, 3) := dk_167 0 5 (dk_at dksX11_waiting_0 11 rfl rfl)
theorem dX11_waiting_14 : decode cX11_waiting 14 = .ok (.bipush (-2), 2) := dk_16 254 (dk_at dksX11_waiting_0 14 rfl rfl)
theorem dX11_waiting_16 : decode cX11_waiting 16 = .ok (.ireturn, 1) := dk_172 (dk_at dksX11_waiting_0 16 rfl rfl)
abbrev cX11_cut : ByteArray := prog_12_method_87_code
def yX11_cut : MethodName := ⟨RX11, "cut", "()I"⟩
def dkwX11_cut_5 : List UInt8 := [29, 3, 79, 132, 3, 1, 167, 255, 240, 42, 3, 181, 0, 213, 42, 3, 181, 0, 7, 27, 172]
abbrev dktX11_cut_5 : List UInt8 := dkwX11_cut_5 ++ []
def dkwX11_cut_4 : List UInt8 := [132, 2, 1, 167, 255, 191, 42, 4, 3, 182, 1, 56, 3, 62, 29, 16, 8, 162, 0, 16, 42, 180, 0, 13]
abbrev dktX11_cut_4 : List UInt8 := dkwX11_cut_4 ++ dktX11_cut_5
def dkwX11_cut_3 : List UInt8 := [4, 42, 180, 0, 23, 28, 46, 182, 0, 169, 42, 89, 180, 1, 53, 4, 96, 181, 1, 53, 167, 255, 197]
abbrev dktX11_cut_3 : List UInt8 := dkwX11_cut_3 ++ dktX11_cut_4
def dkwX11_cut_2 : List UInt8 := [180, 0, 26, 28, 46, 5, 160, 0, 41, 42, 4, 42, 180, 0, 23, 28, 46, 182, 0, 233, 154, 0, 27, 42]
abbrev dktX11_cut_2 : List UInt8 := dkwX11_cut_2 ++ dktX11_cut_3
def dkwX11_cut_1 : List UInt8 := [181, 1, 53, 17, 2, 188, 61, 28, 17, 2, 188, 42, 180, 0, 20, 4, 46, 96, 162, 0, 57, 42]
abbrev dktX11_cut_1 : List UInt8 := dkwX11_cut_1 ++ dktX11_cut_2
def dkwX11_cut_0 : List UInt8 := [42, 180, 0, 7, 154, 0, 6, 16, 254, 172, 42, 180, 0, 195, 60, 42, 3, 181, 0, 195, 42, 3]
abbrev dktX11_cut_0 : List UInt8 := dkwX11_cut_0 ++ dktX11_cut_1
theorem dksX11_cut_0 : cX11_cut.data.toList.drop 0 = dktX11_cut_0 := by decide +kernel
theorem dksX11_cut_1 : cX11_cut.data.toList.drop 22 = dktX11_cut_1 := dk_seg dksX11_cut_0 22 rfl rfl
theorem dksX11_cut_2 : cX11_cut.data.toList.drop 44 = dktX11_cut_2 := dk_seg dksX11_cut_1 22 rfl rfl
theorem dksX11_cut_3 : cX11_cut.data.toList.drop 68 = dktX11_cut_3 := dk_seg dksX11_cut_2 24 rfl rfl
theorem dksX11_cut_4 : cX11_cut.data.toList.drop 91 = dktX11_cut_4 := dk_seg dksX11_cut_3 23 rfl rfl
theorem dksX11_cut_5 : cX11_cut.data.toList.drop 115 = dktX11_cut_5 := dk_seg dksX11_cut_4 24 rfl rfl
theorem dX11_cut_0 : decode cX11_cut 0 = .ok (.aload_n 0, 1) := dk_42 (dk_at dksX11_cut_0 0 rfl rfl)
theorem dX11_cut_1 : decode cX11_cut 1 = .ok (.getfield 7, 3) := dk_180 0 7 (dk_at dksX11_cut_0 1 rfl rfl)
theorem dX11_cut_4 : decode cX11_cut 4 = .ok (.ifCond .ne 6, 3) := dk_154 0 6 (dk_at dksX11_cut_0 4 rfl rfl)
theorem dX11_cut_7 : decode cX11_cut 7 = .ok (.bipush (-2), 2) := dk_16 254 (dk_at dksX11_cut_0 7 rfl rfl)
theorem dX11_cut_9 : decode cX11_cut 9 = .ok (.ireturn, 1) := dk_172 (dk_at dksX11_cut_0 9 rfl rfl)
theorem dX11_cut_10 : decode cX11_cut 10 = .ok (.aload_n 0, 1) := dk_42 (dk_at dksX11_cut_0 10 rfl rfl)
theorem dX11_cut_11 : decode cX11_cut 11 = .ok (.getfield 195, 3) := dk_180 0 195 (dk_at dksX11_cut_0 11 rfl rfl)
theorem dX11_cut_14 : decode cX11_cut 14 = .ok (.istore_n 1, 1) := dk_60 (dk_at dksX11_cut_0 14 rfl rfl)
theorem dX11_cut_15 : decode cX11_cut 15 = .ok (.aload_n 0, 1) := dk_42 (dk_at dksX11_cut_0 15 rfl rfl)
theorem dX11_cut_16 : decode cX11_cut 16 = .ok (.iconst 0, 1) := dk_3 (dk_at dksX11_cut_0 16 rfl rfl)
theorem dX11_cut_17 : decode cX11_cut 17 = .ok (.putfield 195, 3) := dk_181 0 195 (dk_at dksX11_cut_0 17 rfl rfl)
theorem dX11_cut_20 : decode cX11_cut 20 = .ok (.aload_n 0, 1) := dk_42 (dk_at dksX11_cut_0 20 rfl rfl)
theorem dX11_cut_21 : decode cX11_cut 21 = .ok (.iconst 0, 1) := dk_3 (dk_at dksX11_cut_0 21 rfl rfl)
theorem dX11_cut_22 : decode cX11_cut 22 = .ok (.putfield 309, 3) := dk_181 1 53 (dk_at dksX11_cut_1 0 rfl rfl)
theorem dX11_cut_25 : decode cX11_cut 25 = .ok (.sipush 700, 3) := dk_17 2 188 (dk_at dksX11_cut_1 3 rfl rfl)
theorem dX11_cut_28 : decode cX11_cut 28 = .ok (.istore_n 2, 1) := dk_61 (dk_at dksX11_cut_1 6 rfl rfl)
theorem dX11_cut_29 : decode cX11_cut 29 = .ok (.iload_n 2, 1) := dk_28 (dk_at dksX11_cut_1 7 rfl rfl)
theorem dX11_cut_30 : decode cX11_cut 30 = .ok (.sipush 700, 3) := dk_17 2 188 (dk_at dksX11_cut_1 8 rfl rfl)
theorem dX11_cut_33 : decode cX11_cut 33 = .ok (.aload_n 0, 1) := dk_42 (dk_at dksX11_cut_1 11 rfl rfl)
theorem dX11_cut_34 : decode cX11_cut 34 = .ok (.getfield 20, 3) := dk_180 0 20 (dk_at dksX11_cut_1 12 rfl rfl)
theorem dX11_cut_37 : decode cX11_cut 37 = .ok (.iconst 1, 1) := dk_4 (dk_at dksX11_cut_1 15 rfl rfl)
theorem dX11_cut_38 : decode cX11_cut 38 = .ok (.iaload, 1) := dk_46 (dk_at dksX11_cut_1 16 rfl rfl)
theorem dX11_cut_39 : decode cX11_cut 39 = .ok (.iadd, 1) := dk_96 (dk_at dksX11_cut_1 17 rfl rfl)
theorem dX11_cut_40 : decode cX11_cut 40 = .ok (.if_icmp .ge 57, 3) := dk_162 0 57 (dk_at dksX11_cut_1 18 rfl rfl)
theorem dX11_cut_43 : decode cX11_cut 43 = .ok (.aload_n 0, 1) := dk_42 (dk_at dksX11_cut_1 21 rfl rfl)
theorem dX11_cut_44 : decode cX11_cut 44 = .ok (.getfield 26, 3) := dk_180 0 26 (dk_at dksX11_cut_2 0 rfl rfl)
theorem dX11_cut_47 : decode cX11_cut 47 = .ok (.iload_n 2, 1) := dk_28 (dk_at dksX11_cut_2 3 rfl rfl)
theorem dX11_cut_48 : decode cX11_cut 48 = .ok (.iaload, 1) := dk_46 (dk_at dksX11_cut_2 4 rfl rfl)
theorem dX11_cut_49 : decode cX11_cut 49 = .ok (.iconst 2, 1) := dk_5 (dk_at dksX11_cut_2 5 rfl rfl)
theorem dX11_cut_50 : decode cX11_cut 50 = .ok (.if_icmp .ne 41, 3) := dk_160 0 41 (dk_at dksX11_cut_2 6 rfl rfl)
theorem dX11_cut_53 : decode cX11_cut 53 = .ok (.aload_n 0, 1) := dk_42 (dk_at dksX11_cut_2 9 rfl rfl)
theorem dX11_cut_54 : decode cX11_cut 54 = .ok (.iconst 1, 1) := dk_4 (dk_at dksX11_cut_2 10 rfl rfl)
theorem dX11_cut_55 : decode cX11_cut 55 = .ok (.aload_n 0, 1) := dk_42 (dk_at dksX11_cut_2 11 rfl rfl)
theorem dX11_cut_56 : decode cX11_cut 56 = .ok (.getfield 23, 3) := dk_180 0 23 (dk_at dksX11_cut_2 12 rfl rfl)
theorem dX11_cut_59 : decode cX11_cut 59 = .ok (.iload_n 2, 1) := dk_28 (dk_at dksX11_cut_2 15 rfl rfl)
theorem dX11_cut_60 : decode cX11_cut 60 = .ok (.iaload, 1) := dk_46 (dk_at dksX11_cut_2 16 rfl rfl)
theorem dX11_cut_61 : decode cX11_cut 61 = .ok (.invokevirtual 233, 3) := dk_182 0 233 (dk_at dksX11_cut_2 17 rfl rfl)
theorem dX11_cut_64 : decode cX11_cut 64 = .ok (.ifCond .ne 27, 3) := dk_154 0 27 (dk_at dksX11_cut_2 20 rfl rfl)
theorem dX11_cut_67 : decode cX11_cut 67 = .ok (.aload_n 0, 1) := dk_42 (dk_at dksX11_cut_2 23 rfl rfl)
theorem dX11_cut_68 : decode cX11_cut 68 = .ok (.iconst 1, 1) := dk_4 (dk_at dksX11_cut_3 0 rfl rfl)
theorem dX11_cut_69 : decode cX11_cut 69 = .ok (.aload_n 0, 1) := dk_42 (dk_at dksX11_cut_3 1 rfl rfl)
theorem dX11_cut_70 : decode cX11_cut 70 = .ok (.getfield 23, 3) := dk_180 0 23 (dk_at dksX11_cut_3 2 rfl rfl)
theorem dX11_cut_73 : decode cX11_cut 73 = .ok (.iload_n 2, 1) := dk_28 (dk_at dksX11_cut_3 5 rfl rfl)
theorem dX11_cut_74 : decode cX11_cut 74 = .ok (.iaload, 1) := dk_46 (dk_at dksX11_cut_3 6 rfl rfl)
theorem dX11_cut_75 : decode cX11_cut 75 = .ok (.invokevirtual 169, 3) := dk_182 0 169 (dk_at dksX11_cut_3 7 rfl rfl)
theorem dX11_cut_78 : decode cX11_cut 78 = .ok (.aload_n 0, 1) := dk_42 (dk_at dksX11_cut_3 10 rfl rfl)
theorem dX11_cut_79 : decode cX11_cut 79 = .ok (.dup, 1) := dk_89 (dk_at dksX11_cut_3 11 rfl rfl)
theorem dX11_cut_80 : decode cX11_cut 80 = .ok (.getfield 309, 3) := dk_180 1 53 (dk_at dksX11_cut_3 12 rfl rfl)
theorem dX11_cut_83 : decode cX11_cut 83 = .ok (.iconst 1, 1) := dk_4 (dk_at dksX11_cut_3 15 rfl rfl)
theorem dX11_cut_84 : decode cX11_cut 84 = .ok (.iadd, 1) := dk_96 (dk_at dksX11_cut_3 16 rfl rfl)
theorem dX11_cut_85 : decode cX11_cut 85 = .ok (.putfield 309, 3) := dk_181 1 53 (dk_at dksX11_cut_3 17 rfl rfl)
theorem dX11_cut_88 : decode cX11_cut 88 = .ok (.goto (-59), 3) := dk_167 255 197 (dk_at dksX11_cut_3 20 rfl rfl)
theorem dX11_cut_91 : decode cX11_cut 91 = .ok (.iinc 2 1, 3) := dk_132 2 1 (dk_at dksX11_cut_4 0 rfl rfl)
theorem dX11_cut_94 : decode cX11_cut 94 = .ok (.goto (-65), 3) := dk_167 255 191 (dk_at dksX11_cut_4 3 rfl rfl)
theorem dX11_cut_97 : decode cX11_cut 97 = .ok (.aload_n 0, 1) := dk_42 (dk_at dksX11_cut_4 6 rfl rfl)
theorem dX11_cut_98 : decode cX11_cut 98 = .ok (.iconst 1, 1) := dk_4 (dk_at dksX11_cut_4 7 rfl rfl)
theorem dX11_cut_99 : decode cX11_cut 99 = .ok (.iconst 0, 1) := dk_3 (dk_at dksX11_cut_4 8 rfl rfl)
theorem dX11_cut_100 : decode cX11_cut 100 = .ok (.invokevirtual 312, 3) := dk_182 1 56 (dk_at dksX11_cut_4 9 rfl rfl)
theorem dX11_cut_103 : decode cX11_cut 103 = .ok (.iconst 0, 1) := dk_3 (dk_at dksX11_cut_4 12 rfl rfl)
theorem dX11_cut_104 : decode cX11_cut 104 = .ok (.istore_n 3, 1) := dk_62 (dk_at dksX11_cut_4 13 rfl rfl)
theorem dX11_cut_105 : decode cX11_cut 105 = .ok (.iload_n 3, 1) := dk_29 (dk_at dksX11_cut_4 14 rfl rfl)
theorem dX11_cut_106 : decode cX11_cut 106 = .ok (.bipush 8, 2) := dk_16 8 (dk_at dksX11_cut_4 15 rfl rfl)
theorem dX11_cut_108 : decode cX11_cut 108 = .ok (.if_icmp .ge 16, 3) := dk_162 0 16 (dk_at dksX11_cut_4 17 rfl rfl)
theorem dX11_cut_111 : decode cX11_cut 111 = .ok (.aload_n 0, 1) := dk_42 (dk_at dksX11_cut_4 20 rfl rfl)
theorem dX11_cut_112 : decode cX11_cut 112 = .ok (.getfield 13, 3) := dk_180 0 13 (dk_at dksX11_cut_4 21 rfl rfl)
theorem dX11_cut_115 : decode cX11_cut 115 = .ok (.iload_n 3, 1) := dk_29 (dk_at dksX11_cut_5 0 rfl rfl)
theorem dX11_cut_116 : decode cX11_cut 116 = .ok (.iconst 0, 1) := dk_3 (dk_at dksX11_cut_5 1 rfl rfl)
theorem dX11_cut_117 : decode cX11_cut 117 = .ok (.iastore, 1) := dk_79 (dk_at dksX11_cut_5 2 rfl rfl)
theorem dX11_cut_118 : decode cX11_cut 118 = .ok (.iinc 3 1, 3) := dk_132 3 1 (dk_at dksX11_cut_5 3 rfl rfl)
theorem dX11_cut_121 : decode cX11_cut 121 = .ok (.goto (-16), 3) := dk_167 255 240 (dk_at dksX11_cut_5 6 rfl rfl)
theorem dX11_cut_124 : decode cX11_cut 124 = .ok (.aload_n 0, 1) := dk_42 (dk_at dksX11_cut_5 9 rfl rfl)
theorem dX11_cut_125 : decode cX11_cut 125 = .ok (.iconst 0, 1) := dk_3 (dk_at dksX11_cut_5 10 rfl rfl)
theorem dX11_cut_126 : decode cX11_cut 126 = .ok (.putfield 213, 3) := dk_181 0 213 (dk_at dksX11_cut_5 11 rfl rfl)
theorem dX11_cut_129 : decode cX11_cut 129 = .ok (.aload_n 0, 1) := dk_42 (dk_at dksX11_cut_5 14 rfl rfl)
theorem dX11_cut_130 : decode cX11_cut 130 = .ok (.iconst 0, 1) := dk_3 (dk_at dksX11_cut_5 15 rfl rfl)
theorem dX11_cut_131 : decode cX11_cut 131 = .ok (.putfield 7, 3) := dk_181 0 7 (dk_at dksX11_cut_5 16 rfl rfl)
theorem dX11_cut_134 : decode cX11_cut 134 = .ok (.iload_n 1, 1) := dk_27 (dk_at dksX11_cut_5 19 rfl rfl)
theorem dX11_cut_135 : decode cX11_cut 135 = .ok (.ireturn, 1) := dk_172 (dk_at dksX11_cut_5 20 rfl rfl)
abbrev cX11_copyTree : ByteArray := prog_12_method_86_code
def yX11_copyTree : MethodName := ⟨RX11, "copyTree", "(II)V"⟩
def dkwX11_copyTree_19 : List UInt8 := [29, 96, 104, 21, 4, 96, 51, 84, 132, 4, 1, 167, 255, 210, 132, 3, 1, 167, 255, 119, 177]
abbrev dktX11_copyTree_19 : List UInt8 := dkwX11_copyTree_19 ++ []
def dkwX11_copyTree_18 : List UInt8 := [16, 64, 17, 2, 208, 28, 104, 29, 96, 104, 21, 4, 96, 42, 180, 0, 70, 16, 64, 17, 2, 208, 27, 104]
abbrev dktX11_copyTree_18 : List UInt8 := dkwX11_copyTree_18 ++ dktX11_copyTree_19
def dkwX11_copyTree_17 : List UInt8 := [17, 2, 208, 27, 104, 29, 96, 46, 79, 3, 54, 4, 21, 4, 16, 64, 162, 0, 45, 42, 180, 0, 70]
abbrev dktX11_copyTree_17 : List UInt8 := dkwX11_copyTree_17 ++ dktX11_copyTree_18
def dkwX11_copyTree_16 : List UInt8 := [17, 2, 208, 27, 104, 29, 96, 46, 79, 42, 180, 0, 66, 17, 2, 208, 28, 104, 29, 96, 42, 180, 0, 66]
abbrev dktX11_copyTree_16 : List UInt8 := dkwX11_copyTree_16 ++ dktX11_copyTree_17
def dkwX11_copyTree_15 : List UInt8 := [17, 2, 208, 27, 104, 29, 96, 46, 79, 42, 180, 0, 63, 17, 2, 208, 28, 104, 29, 96, 42, 180, 0, 63]
abbrev dktX11_copyTree_15 : List UInt8 := dkwX11_copyTree_15 ++ dktX11_copyTree_16
def dkwX11_copyTree_14 : List UInt8 := [42, 180, 0, 57, 27, 46, 162, 0, 133, 42, 180, 0, 60, 17, 2, 208, 28, 104, 29, 96, 42, 180, 0, 60]
abbrev dktX11_copyTree_14 : List UInt8 := dkwX11_copyTree_14 ++ dktX11_copyTree_15
def dkwX11_copyTree_13 : List UInt8 := [29, 96, 42, 180, 0, 54, 17, 2, 188, 27, 104, 29, 96, 47, 80, 132, 3, 1, 167, 255, 171, 3, 62, 29]
abbrev dktX11_copyTree_13 : List UInt8 := dkwX11_copyTree_13 ++ dktX11_copyTree_14
def dkwX11_copyTree_12 : List UInt8 := [29, 96, 42, 180, 0, 51, 17, 2, 188, 27, 104, 29, 96, 47, 80, 42, 180, 0, 54, 17, 2, 188, 28, 104]
abbrev dktX11_copyTree_12 : List UInt8 := dkwX11_copyTree_12 ++ dktX11_copyTree_13
def dkwX11_copyTree_11 : List UInt8 := [29, 96, 42, 180, 0, 48, 17, 2, 188, 27, 104, 29, 96, 46, 79, 42, 180, 0, 51, 17, 2, 188, 28, 104]
abbrev dktX11_copyTree_11 : List UInt8 := dkwX11_copyTree_11 ++ dktX11_copyTree_12
def dkwX11_copyTree_10 : List UInt8 := [27, 46, 79, 3, 62, 29, 42, 180, 0, 45, 27, 46, 162, 0, 81, 42, 180, 0, 48, 17, 2, 188, 28, 104]
abbrev dktX11_copyTree_10 : List UInt8 := dkwX11_copyTree_10 ++ dktX11_copyTree_11
def dkwX11_copyTree_9 : List UInt8 := [17, 2, 188, 27, 104, 29, 96, 46, 79, 132, 3, 1, 167, 255, 171, 42, 180, 0, 45, 28, 42, 180, 0, 45]
abbrev dktX11_copyTree_9 : List UInt8 := dkwX11_copyTree_9 ++ dktX11_copyTree_10
def dkwX11_copyTree_8 : List UInt8 := [17, 2, 188, 27, 104, 29, 96, 47, 80, 42, 180, 0, 42, 17, 2, 188, 28, 104, 29, 96, 42, 180, 0, 42]
abbrev dktX11_copyTree_8 : List UInt8 := dkwX11_copyTree_8 ++ dktX11_copyTree_9
def dkwX11_copyTree_7 : List UInt8 := [17, 2, 188, 27, 104, 29, 96, 46, 79, 42, 180, 0, 38, 17, 2, 188, 28, 104, 29, 96, 42, 180, 0, 38]
abbrev dktX11_copyTree_7 : List UInt8 := dkwX11_copyTree_7 ++ dktX11_copyTree_8
def dkwX11_copyTree_6 : List UInt8 := [180, 0, 32, 27, 46, 162, 0, 81, 42, 180, 0, 35, 17, 2, 188, 28, 104, 29, 96, 42, 180, 0, 35]
abbrev dktX11_copyTree_6 : List UInt8 := dkwX11_copyTree_6 ++ dktX11_copyTree_7
def dkwX11_copyTree_5 : List UInt8 := [180, 0, 29, 17, 2, 188, 27, 104, 29, 96, 46, 79, 132, 3, 1, 167, 255, 171, 3, 62, 29, 42]
abbrev dktX11_copyTree_5 : List UInt8 := dkwX11_copyTree_5 ++ dktX11_copyTree_6
def dkwX11_copyTree_4 : List UInt8 := [180, 0, 26, 17, 2, 188, 27, 104, 29, 96, 46, 79, 42, 180, 0, 29, 17, 2, 188, 28, 104, 29, 96, 42]
abbrev dktX11_copyTree_4 : List UInt8 := dkwX11_copyTree_4 ++ dktX11_copyTree_5
def dkwX11_copyTree_3 : List UInt8 := [180, 0, 23, 17, 2, 188, 27, 104, 29, 96, 46, 79, 42, 180, 0, 26, 17, 2, 188, 28, 104, 29, 96, 42]
abbrev dktX11_copyTree_3 : List UInt8 := dkwX11_copyTree_3 ++ dktX11_copyTree_4
def dkwX11_copyTree_2 : List UInt8 := [3, 62, 29, 42, 180, 0, 20, 27, 46, 162, 0, 81, 42, 180, 0, 23, 17, 2, 188, 28, 104, 29, 96, 42]
abbrev dktX11_copyTree_2 : List UInt8 := dkwX11_copyTree_2 ++ dktX11_copyTree_3
def dkwX11_copyTree_1 : List UInt8 := [42, 180, 0, 32, 28, 42, 180, 0, 32, 27, 46, 79, 42, 180, 0, 57, 28, 42, 180, 0, 57, 27, 46, 79]
abbrev dktX11_copyTree_1 : List UInt8 := dkwX11_copyTree_1 ++ dktX11_copyTree_2
def dkwX11_copyTree_0 : List UInt8 := [42, 180, 0, 17, 28, 42, 180, 0, 17, 27, 46, 79, 42, 180, 0, 20, 28, 42, 180, 0, 20, 27, 46, 79]
abbrev dktX11_copyTree_0 : List UInt8 := dkwX11_copyTree_0 ++ dktX11_copyTree_1
theorem dksX11_copyTree_0 : cX11_copyTree.data.toList.drop 0 = dktX11_copyTree_0 := by decide +kernel
theorem dksX11_copyTree_1 : cX11_copyTree.data.toList.drop 24 = dktX11_copyTree_1 := dk_seg dksX11_copyTree_0 24 rfl rfl
theorem dksX11_copyTree_2 : cX11_copyTree.data.toList.drop 48 = dktX11_copyTree_2 := dk_seg dksX11_copyTree_1 24 rfl rfl
theorem dksX11_copyTree_3 : cX11_copyTree.data.toList.drop 72 = dktX11_copyTree_3 := dk_seg dksX11_copyTree_2 24 rfl rfl
theorem dksX11_copyTree_4 : cX11_copyTree.data.toList.drop 96 = dktX11_copyTree_4 := dk_seg dksX11_copyTree_3 24 rfl rfl
theorem dksX11_copyTree_5 : cX11_copyTree.data.toList.drop 120 = dktX11_copyTree_5 := dk_seg dksX11_copyTree_4 24 rfl rfl
theorem dksX11_copyTree_6 : cX11_copyTree.data.toList.drop 142 = dktX11_copyTree_6 := dk_seg dksX11_copyTree_5 22 rfl rfl
theorem dksX11_copyTree_7 : cX11_copyTree.data.toList.drop 165 = dktX11_copyTree_7 := dk_seg dksX11_copyTree_6 23 rfl rfl
theorem dksX11_copyTree_8 : cX11_copyTree.data.toList.drop 189 = dktX11_copyTree_8 := dk_seg dksX11_copyTree_7 24 rfl rfl
theorem dksX11_copyTree_9 : cX11_copyTree.data.toList.drop 213 = dktX11_copyTree_9 := dk_seg dksX11_copyTree_8 24 rfl rfl
theorem dksX11_copyTree_10 : cX11_copyTree.data.toList.drop 237 = dktX11_copyTree_10 := dk_seg dksX11_copyTree_9 24 rfl rfl
theorem dksX11_copyTree_11 : cX11_copyTree.data.toList.drop 261 = dktX11_copyTree_11 := dk_seg dksX11_copyTree_10 24 rfl rfl
theorem dksX11_copyTree_12 : cX11_copyTree.data.toList.drop 285 = dktX11_copyTree_12 := dk_seg dksX11_copyTree_11 24 rfl rfl
theorem dksX11_copyTree_13 : cX11_copyTree.data.toList.drop 309 = dktX11_copyTree_13 := dk_seg dksX11_copyTree_12 24 rfl rfl
theorem dksX11_copyTree_14 : cX11_copyTree.data.toList.drop 333 = dktX11_copyTree_14 := dk_seg dksX11_copyTree_13 24 rfl rfl
theorem dksX11_copyTree_15 : cX11_copyTree.data.toList.drop 357 = dktX11_copyTree_15 := dk_seg dksX11_copyTree_14 24 rfl rfl
theorem dksX11_copyTree_16 : cX11_copyTree.data.toList.drop 381 = dktX11_copyTree_16 := dk_seg dksX11_copyTree_15 24 rfl rfl
theorem dksX11_copyTree_17 : cX11_copyTree.data.toList.drop 405 = dktX11_copyTree_17 := dk_seg dksX11_copyTree_16 24 rfl rfl
theorem dksX11_copyTree_18 : cX11_copyTree.data.toList.drop 428 = dktX11_copyTree_18 := dk_seg dksX11_copyTree_17 23 rfl rfl
theorem dksX11_copyTree_19 : cX11_copyTree.data.toList.drop 452 = dktX11_copyTree_19 := dk_seg dksX11_copyTree_18 24 rfl rfl
theorem dX11_copyTree_0 : decode cX11_copyTree 0 = .ok (.aload_n 0, 1) := dk_42 (dk_at dksX11_copyTree_0 0 rfl rfl)
theorem dX11_copyTree_1 : decode cX11_copyTree 1 = .ok (.getfield 17, 3) := dk_180 0 17 (dk_at dksX11_copyTree_0 1 rfl rfl)
theorem dX11_copyTree_4 : decode cX11_copyTree 4 = .ok (.iload_n 2, 1) := dk_28 (dk_at dksX11_copyTree_0 4 rfl rfl)
theorem dX11_copyTree_5 : decode cX11_copyTree 5 = .ok (.aload_n 0, 1) := dk_42 (dk_at dksX11_copyTree_0 5 rfl rfl)
theorem dX11_copyTree_6 : decode cX11_copyTree 6 = .ok (.getfield 17, 3) := dk_180 0 17 (dk_at dksX11_copyTree_0 6 rfl rfl)
theorem dX11_copyTree_9 : decode cX11_copyTree 9 = .ok (.iload_n 1, 1) := dk_27 (dk_at dksX11_copyTree_0 9 rfl rfl)
theorem dX11_copyTree_10 : decode cX11_copyTree 10 = .ok (.iaload, 1) := dk_46 (dk_at dksX11_copyTree_0 10 rfl rfl)
theorem dX11_copyTree_11 : decode cX11_copyTree 11 = .ok (.iastore, 1) := dk_79 (dk_at dksX11_copyTree_0 11 rfl rfl)
theorem dX11_copyTree_12 : decode cX11_copyTree 12 = .ok (.aload_n 0, 1) := dk_42 (dk_at dksX11_copyTree_0 12 rfl rfl)
theorem dX11_copyTree_13 : decode cX11_copyTree 13 = .ok (.getfield 20, 3) := dk_180 0 20 (dk_at dksX11_copyTree_0 13 rfl rfl)
theorem dX11_copyTree_16 : decode cX11_copyTree 16 = .ok (.iload_n 2, 1) := dk_28 (dk_at dksX11_copyTree_0 16 rfl rfl)
theorem dX11_copyTree_17 : decode cX11_copyTree 17 = .ok (.aload_n 0, 1) := dk_42 (dk_at dksX11_copyTree_0 17 rfl rfl)
theorem dX11_copyTree_18 : decode cX11_copyTree 18 = .ok (.getfield 20, 3) := dk_180 0 20 (dk_at dksX11_copyTree_0 18 rfl rfl)
theorem dX11_copyTree_21 : decode cX11_copyTree 21 = .ok (.iload_n 1, 1) := dk_27 (dk_at dksX11_copyTree_0 21 rfl rfl)
theorem dX11_copyTree_22 : decode cX11_copyTree 22 = .ok (.iaload, 1) := dk_46 (dk_at dksX11_copyTree_0 22 rfl rfl)
theorem dX11_copyTree_23 : decode cX11_copyTree 23 = .ok (.iastore, 1) := dk_79 (dk_at dksX11_copyTree_0 23 rfl rfl)
theorem dX11_copyTree_24 : decode cX11_copyTree 24 = .ok (.aload_n 0, 1) := dk_42 (dk_at dksX11_copyTree_1 0 rfl rfl)
theorem dX11_copyTree_25 : decode cX11_copyTree 25 = .ok (.getfield 32, 3) := dk_180 0 32 (dk_at dksX11_copyTree_1 1 rfl rfl)
theorem dX11_copyTree_28 : decode cX11_copyTree 28 = .ok (.iload_n 2, 1) := dk_28 (dk_at dksX11_copyTree_1 4 rfl rfl)
theorem dX11_copyTree_29 : decode cX11_copyTree 29 = .ok (.aload_n 0, 1) := dk_42 (dk_at dksX11_copyTree_1 5 rfl rfl)
theorem dX11_copyTree_30 : decode cX11_copyTree 30 = .ok (.getfield 32, 3) := dk_180 0 32 (dk_at dksX11_copyTree_1 6 rfl rfl)
theorem dX11_copyTree_33 : decode cX11_copyTree 33 = .ok (.iload_n 1, 1) := dk_27 (dk_at dksX11_copyTree_1 9 rfl rfl)
theorem dX11_copyTree_34 : decode cX11_copyTree 34 = .ok (.iaload, 1) := dk_46 (dk_at dksX11_copyTree_1 10 rfl rfl)
theorem dX11_copyTree_35 : decode cX11_copyTree 35 = .ok (.iastore, 1) := dk_79 (dk_at dksX11_copyTree_1 11 rfl rfl)
theorem dX11_copyTree_36 : decode cX11_copyTree 36 = .ok (.aload_n 0, 1) := dk_42 (dk_at dksX11_copyTree_1 12 rfl rfl)
theorem dX11_copyTree_37 : decode cX11_copyTree 37 = .ok (.getfield 57, 3) := dk_180 0 57 (dk_at dksX11_copyTree_1 13 rfl rfl)
theorem dX11_copyTree_40 : decode cX11_copyTree 40 = .ok (.iload_n 2, 1) := dk_28 (dk_at dksX11_copyTree_1 16 rfl rfl)
theorem dX11_copyTree_41 : decode cX11_copyTree 41 = .ok (.aload_n 0, 1) := dk_42 (dk_at dksX11_copyTree_1 17 rfl rfl)
theorem dX11_copyTree_42 : decode cX11_copyTree 42 = .ok (.getfield 57, 3) := dk_180 0 57 (dk_at dksX11_copyTree_1 18 rfl rfl)
theorem dX11_copyTree_45 : decode cX11_copyTree 45 = .ok (.iload_n 1, 1) := dk_27 (dk_at dksX11_copyTree_1 21 rfl rfl)
theorem dX11_copyTree_46 : decode cX11_copyTree 46 = .ok (.iaload, 1) := dk_46 (dk_at dksX11_copyTree_1 22 rfl rfl)
theorem dX11_copyTree_47 : decode cX11_copyTree 47 = .ok (.iastore, 1) := dk_79 (dk_at dksX11_copyTree_1 23 rfl rfl)
theorem dX11_copyTree_48 : decode cX11_copyTree 48 = .ok (.iconst 0, 1) := dk_3 (dk_at dksX11_copyTree_2 0 rfl rfl)
theorem dX11_copyTree_49 : decode cX11_copyTree 49 = .ok (.istore_n 3, 1) := dk_62 (dk_at dksX11_copyTree_2 1 rfl rfl)
theorem dX11_copyTree_50 : decode cX11_copyTree 50 = .ok (.iload_n 3, 1) := dk_29 (dk_at dksX11_copyTree_2 2 rfl rfl)
theorem dX11_copyTree_51 : decode cX11_copyTree 51 = .ok (.aload_n 0, 1) := dk_42 (dk_at dksX11_copyTree_2 3 rfl rfl)
theorem dX11_copyTree_52 : decode cX11_copyTree 52 = .ok (.getfield 20, 3) := dk_180 0 20 (dk_at dksX11_copyTree_2 4 rfl rfl)
theorem dX11_copyTree_55 : decode cX11_copyTree 55 = .ok (.iload_n 1, 1) := dk_27 (dk_at dksX11_copyTree_2 7 rfl rfl)
theorem dX11_copyTree_56 : decode cX11_copyTree 56 = .ok (.iaload, 1) := dk_46 (dk_at dksX11_copyTree_2 8 rfl rfl)
theorem dX11_copyTree_57 : decode cX11_copyTree 57 = .ok (.if_icmp .ge 81, 3) := dk_162 0 81 (dk_at dksX11_copyTree_2 9 rfl rfl)
theorem dX11_copyTree_60 : decode cX11_copyTree 60 = .ok (.aload_n 0, 1) := dk_42 (dk_at dksX11_copyTree_2 12 rfl rfl)
theorem dX11_copyTree_61 : decode cX11_copyTree 61 = .ok (.getfield 23, 3) := dk_180 0 23 (dk_at dksX11_copyTree_2 13 rfl rfl)
theorem dX11_copyTree_64 : decode cX11_copyTree 64 = .ok (.sipush 700, 3) := dk_17 2 188 (dk_at dksX11_copyTree_2 16 rfl rfl)
theorem dX11_copyTree_67 : decode cX11_copyTree 67 = .ok (.iload_n 2, 1) := dk_28 (dk_at dksX11_copyTree_2 19 rfl rfl)
theorem dX11_copyTree_68 : decode cX11_copyTree 68 = .ok (.imul, 1) := dk_104 (dk_at dksX11_copyTree_2 20 rfl rfl)
theorem dX11_copyTree_69 : decode cX11_copyTree 69 = .ok (.iload_n 3, 1) := dk_29 (dk_at dksX11_copyTree_2 21 rfl rfl)
theorem dX11_copyTree_70 : decode cX11_copyTree 70 = .ok (.iadd, 1) := dk_96 (dk_at dksX11_copyTree_2 22 rfl rfl)
theorem dX11_copyTree_71 : decode cX11_copyTree 71 = .ok (.aload_n 0, 1) := dk_42 (dk_at dksX11_copyTree_2 23 rfl rfl)
theorem dX11_copyTree_72 : decode cX11_copyTree 72 = .ok (.getfield 23, 3) := dk_180 0 23 (dk_at dksX11_copyTree_3 0 rfl rfl)
theorem dX11_copyTree_75 : decode cX11_copyTree 75 = .ok (.sipush 700, 3) := dk_17 2 188 (dk_at dksX11_copyTree_3 3 rfl rfl)
theorem dX11_copyTree_78 : decode cX11_copyTree 78 = .ok (.iload_n 1, 1) := dk_27 (dk_at dksX11_copyTree_3 6 rfl rfl)
theorem dX11_copyTree_79 : decode cX11_copyTree 79 = .ok (.imul, 1) := dk_104 (dk_at dksX11_copyTree_3 7 rfl rfl)
theorem dX11_copyTree_80 : decode cX11_copyTree 80 = .ok (.iload_n 3, 1) := dk_29 (dk_at dksX11_copyTree_3 8 rfl rfl)
theorem dX11_copyTree_81 : decode cX11_copyTree 81 = .ok (.iadd, 1) := dk_96 (dk_at dksX11_copyTree_3 9 rfl rfl)
theorem dX11_copyTree_82 : decode cX11_copyTree 82 = .ok (.iaload, 1) := dk_46 (dk_at dksX11_copyTree_3 10 rfl rfl)
theorem dX11_copyTree_83 : decode cX11_copyTree 83 = .ok (.iastore, 1) := dk_79 (dk_at dksX11_copyTree_3 11 rfl rfl)
theorem dX11_copyTree_84 : decode cX11_copyTree 84 = .ok (.aload_n 0, 1) := dk_42 (dk_at dksX11_copyTree_3 12 rfl rfl)
theorem dX11_copyTree_85 : decode cX11_copyTree 85 = .ok (.getfield 26, 3) := dk_180 0 26 (dk_at dksX11_copyTree_3 13 rfl rfl)
theorem dX11_copyTree_88 : decode cX11_copyTree 88 = .ok (.sipush 700, 3) := dk_17 2 188 (dk_at dksX11_copyTree_3 16 rfl rfl)
theorem dX11_copyTree_91 : decode cX11_copyTree 91 = .ok (.iload_n 2, 1) := dk_28 (dk_at dksX11_copyTree_3 19 rfl rfl)
theorem dX11_copyTree_92 : decode cX11_copyTree 92 = .ok (.imul, 1) := dk_104 (dk_at dksX11_copyTree_3 20 rfl rfl)
theorem dX11_copyTree_93 : decode cX11_copyTree 93 = .ok (.iload_n 3, 1) := dk_29 (dk_at dksX11_copyTree_3 21 rfl rfl)
theorem dX11_copyTree_94 : decode cX11_copyTree 94 = .ok (.iadd, 1) := dk_96 (dk_at dksX11_copyTree_3 22 rfl rfl)
theorem dX11_copyTree_95 : decode cX11_copyTree 95 = .ok (.aload_n 0, 1) := dk_42 (dk_at dksX11_copyTree_3 23 rfl rfl)
theorem dX11_copyTree_96 : decode cX11_copyTree 96 = .ok (.getfield 26, 3) := dk_180 0 26 (dk_at dksX11_copyTree_4 0 rfl rfl)
theorem dX11_copyTree_99 : decode cX11_copyTree 99 = .ok (.sipush 700, 3) := dk_17 2 188 (dk_at dksX11_copyTree_4 3 rfl rfl)
theorem dX11_copyTree_102 : decode cX11_copyTree 102 = .ok (.iload_n 1, 1) := dk_27 (dk_at dksX11_copyTree_4 6 rfl rfl)
theorem dX11_copyTree_103 : decode cX11_copyTree 103 = .ok (.imul, 1) := dk_104 (dk_at dksX11_copyTree_4 7 rfl rfl)
theorem dX11_copyTree_104 : decode cX11_copyTree 104 = .ok (.iload_n 3, 1) := dk_29 (dk_at dksX11_copyTree_4 8 rfl rfl)
theorem dX11_copyTree_105 : decode cX11_copyTree 105 = .ok (.iadd, 1) := dk_96 (dk_at dksX11_copyTree_4 9 rfl rfl)
theorem dX11_copyTree_106 : decode cX11_copyTree 106 = .ok (.iaload, 1) := dk_46 (dk_at dksX11_copyTree_4 10 rfl rfl)
theorem dX11_copyTree_107 : decode cX11_copyTree 107 = .ok (.iastore, 1) := dk_79 (dk_at dksX11_copyTree_4 11 rfl rfl)
theorem dX11_copyTree_108 : decode cX11_copyTree 108 = .ok (.aload_n 0, 1) := dk_42 (dk_at dksX11_copyTree_4 12 rfl rfl)
theorem dX11_copyTree_109 : decode cX11_copyTree 109 = .ok (.getfield 29, 3) := dk_180 0 29 (dk_at dksX11_copyTree_4 13 rfl rfl)
theorem dX11_copyTree_112 : decode cX11_copyTree 112 = .ok (.sipush 700, 3) := dk_17 2 188 (dk_at dksX11_copyTree_4 16 rfl rfl)
theorem dX11_copyTree_115 : decode cX11_copyTree 115 = .ok (.iload_n 2, 1) := dk_28 (dk_at dksX11_copyTree_4 19 rfl rfl)
theorem dX11_copyTree_116 : decode cX11_copyTree 116 = .ok (.imul, 1) := dk_104 (dk_at dksX11_copyTree_4 20 rfl rfl)
theorem dX11_copyTree_117 : decode cX11_copyTree 117 = .ok (.iload_n 3, 1) := dk_29 (dk_at dksX11_copyTree_4 21 rfl rfl)
theorem dX11_copyTree_118 : decode cX11_copyTree 118 = .ok (.iadd, 1) := dk_96 (dk_at dksX11_copyTree_4 22 rfl rfl)
theorem dX11_copyTree_119 : decode cX11_copyTree 119 = .ok (.aload_n 0, 1) := dk_42 (dk_at dksX11_copyTree_4 23 rfl rfl)
theorem dX11_copyTree_120 : decode cX11_copyTree 120 = .ok (.getfield 29, 3) := dk_180 0 29 (dk_at dksX11_copyTree_5 0 rfl rfl)
theorem dX11_copyTree_123 : decode cX11_copyTree 123 = .ok (.sipush 700, 3) := dk_17 2 188 (dk_at dksX11_copyTree_5 3 rfl rfl)
theorem dX11_copyTree_126 : decode cX11_copyTree 126 = .ok (.iload_n 1, 1) := dk_27 (dk_at dksX11_copyTree_5 6 rfl rfl)
theorem dX11_copyTree_127 : decode cX11_copyTree 127 = .ok (.imul, 1) := dk_104 (dk_at dksX11_copyTree_5 7 rfl rfl)
theorem dX11_copyTree_128 : decode cX11_copyTree 128 = .ok (.iload_n 3, 1) := dk_29 (dk_at dksX11_copyTree_5 8 rfl rfl)
theorem dX11_copyTree_129 : decode cX11_copyTree 129 = .ok (.iadd, 1) := dk_96 (dk_at dksX11_copyTree_5 9 rfl rfl)
theorem dX11_copyTree_130 : decode cX11_copyTree 130 = .ok (.iaload, 1) := dk_46 (dk_at dksX11_copyTree_5 10 rfl rfl)
theorem dX11_copyTree_131 : decode cX11_copyTree 131 = .ok (.iastore, 1) := dk_79 (dk_at dksX11_copyTree_5 11 rfl rfl)
theorem dX11_copyTree_132 : decode cX11_copyTree 132 = .ok (.iinc 3 1, 3) := dk_132 3 1 (dk_at dksX11_copyTree_5 12 rfl rfl)
theorem dX11_copyTree_135 : decode cX11_copyTree 135 = .ok (.goto (-85), 3) := dk_167 255 171 (dk_at dksX11_copyTree_5 15 rfl rfl)
theorem dX11_copyTree_138 : decode cX11_copyTree 138 = .ok (.iconst 0, 1) := dk_3 (dk_at dksX11_copyTree_5 18 rfl rfl)
theorem dX11_copyTree_139 : decode cX11_copyTree 139 = .ok (.istore_n 3, 1) := dk_62 (dk_at dksX11_copyTree_5 19 rfl rfl)
theorem dX11_copyTree_140 : decode cX11_copyTree 140 = .ok (.iload_n 3, 1) := dk_29 (dk_at dksX11_copyTree_5 20 rfl rfl)
theorem dX11_copyTree_141 : decode cX11_copyTree 141 = .ok (.aload_n 0, 1) := dk_42 (dk_at dksX11_copyTree_5 21 rfl rfl)
theorem dX11_copyTree_142 : decode cX11_copyTree 142 = .ok (.getfield 32, 3) := dk_180 0 32 (dk_at dksX11_copyTree_6 0 rfl rfl)
theorem dX11_copyTree_145 : decode cX11_copyTree 145 = .ok (.iload_n 1, 1) := dk_27 (dk_at dksX11_copyTree_6 3 rfl rfl)
theorem dX11_copyTree_146 : decode cX11_copyTree 146 = .ok (.iaload, 1) := dk_46 (dk_at dksX11_copyTree_6 4 rfl rfl)
theorem dX11_copyTree_147 : decode cX11_copyTree 147 = .ok (.if_icmp .ge 81, 3) := dk_162 0 81 (dk_at dksX11_copyTree_6 5 rfl rfl)
theorem dX11_copyTree_150 : decode cX11_copyTree 150 = .ok (.aload_n 0, 1) := dk_42 (dk_at dksX11_copyTree_6 8 rfl rfl)
theorem dX11_copyTree_151 : decode cX11_copyTree 151 = .ok (.getfield 35, 3) := dk_180 0 35 (dk_at dksX11_copyTree_6 9 rfl rfl)
theorem dX11_copyTree_154 : decode cX11_copyTree 154 = .ok (.sipush 700, 3) := dk_17 2 188 (dk_at dksX11_copyTree_6 12 rfl rfl)
theorem dX11_copyTree_157 : decode cX11_copyTree 157 = .ok (.iload_n 2, 1) := dk_28 (dk_at dksX11_copyTree_6 15 rfl rfl)
theorem dX11_copyTree_158 : decode cX11_copyTree 158 = .ok (.imul, 1) := dk_104 (dk_at dksX11_copyTree_6 16 rfl rfl)
theorem dX11_copyTree_159 : decode cX11_copyTree 159 = .ok (.iload_n 3, 1) := dk_29 (dk_at dksX11_copyTree_6 17 rfl rfl)
theorem dX11_copyTree_160 : decode cX11_copyTree 160 = .ok (.iadd, 1) := dk_96 (dk_at dksX11_copyTree_6 18 rfl rfl)
theorem dX11_copyTree_161 : decode cX11_copyTree 161 = .ok (.aload_n 0, 1) := dk_42 (dk_at dksX11_copyTree_6 19 rfl rfl)
theorem dX11_copyTree_162 : decode cX11_copyTree 162 = .ok (.getfield 35, 3) := dk_180 0 35 (dk_at dksX11_copyTree_6 20 rfl rfl)
theorem dX11_copyTree_165 : decode cX11_copyTree 165 = .ok (.sipush 700, 3) := dk_17 2 188 (dk_at dksX11_copyTree_7 0 rfl rfl)
theorem dX11_copyTree_168 : decode cX11_copyTree 168 = .ok (.iload_n 1, 1) := dk_27 (dk_at dksX11_copyTree_7 3 rfl rfl)
theorem dX11_copyTree_169 : decode cX11_copyTree 169 = .ok (.imul, 1) := dk_104 (dk_at dksX11_copyTree_7 4 rfl rfl)
theorem dX11_copyTree_170 : decode cX11_copyTree 170 = .ok (.iload_n 3, 1) := dk_29 (dk_at dksX11_copyTree_7 5 rfl rfl)
theorem dX11_copyTree_171 : decode cX11_copyTree 171 = .ok (.iadd, 1) := dk_96 (dk_at dksX11_copyTree_7 6 rfl rfl)
theorem dX11_copyTree_172 : decode cX11_copyTree 172 = .ok (.iaload, 1) := dk_46 (dk_at dksX11_copyTree_7 7 rfl rfl)
theorem dX11_copyTree_173 : decode cX11_copyTree 173 = .ok (.iastore, 1) := dk_79 (dk_at dksX11_copyTree_7 8 rfl rfl)
theorem dX11_copyTree_174 : decode cX11_copyTree 174 = .ok (.aload_n 0, 1) := dk_42 (dk_at dksX11_copyTree_7 9 rfl rfl)
theorem dX11_copyTree_175 : decode cX11_copyTree 175 = .ok (.getfield 38, 3) := dk_180 0 38 (dk_at dksX11_copyTree_7 10 rfl rfl)
theorem dX11_copyTree_178 : decode cX11_copyTree 178 = .ok (.sipush 700, 3) := dk_17 2 188 (dk_at dksX11_copyTree_7 13 rfl rfl)
theorem dX11_copyTree_181 : decode cX11_copyTree 181 = .ok (.iload_n 2, 1) := dk_28 (dk_at dksX11_copyTree_7 16 rfl rfl)
theorem dX11_copyTree_182 : decode cX11_copyTree 182 = .ok (.imul, 1) := dk_104 (dk_at dksX11_copyTree_7 17 rfl rfl)
theorem dX11_copyTree_183 : decode cX11_copyTree 183 = .ok (.iload_n 3, 1) := dk_29 (dk_at dksX11_copyTree_7 18 rfl rfl)
theorem dX11_copyTree_184 : decode cX11_copyTree 184 = .ok (.iadd, 1) := dk_96 (dk_at dksX11_copyTree_7 19 rfl rfl)
theorem dX11_copyTree_185 : decode cX11_copyTree 185 = .ok (.aload_n 0, 1) := dk_42 (dk_at dksX11_copyTree_7 20 rfl rfl)
theorem dX11_copyTree_186 : decode cX11_copyTree 186 = .ok (.getfield 38, 3) := dk_180 0 38 (dk_at dksX11_copyTree_7 21 rfl rfl)
theorem dX11_copyTree_189 : decode cX11_copyTree 189 = .ok (.sipush 700, 3) := dk_17 2 188 (dk_at dksX11_copyTree_8 0 rfl rfl)
theorem dX11_copyTree_192 : decode cX11_copyTree 192 = .ok (.iload_n 1, 1) := dk_27 (dk_at dksX11_copyTree_8 3 rfl rfl)
theorem dX11_copyTree_193 : decode cX11_copyTree 193 = .ok (.imul, 1) := dk_104 (dk_at dksX11_copyTree_8 4 rfl rfl)
theorem dX11_copyTree_194 : decode cX11_copyTree 194 = .ok (.iload_n 3, 1) := dk_29 (dk_at dksX11_copyTree_8 5 rfl rfl)
theorem dX11_copyTree_195 : decode cX11_copyTree 195 = .ok (.iadd, 1) := dk_96 (dk_at dksX11_copyTree_8 6 rfl rfl)
theorem dX11_copyTree_196 : decode cX11_copyTree 196 = .ok (.laload, 1) := dk_47 (dk_at dksX11_copyTree_8 7 rfl rfl)
theorem dX11_copyTree_197 : decode cX11_copyTree 197 = .ok (.lastore, 1) := dk_80 (dk_at dksX11_copyTree_8 8 rfl rfl)
theorem dX11_copyTree_198 : decode cX11_copyTree 198 = .ok (.aload_n 0, 1) := dk_42 (dk_at dksX11_copyTree_8 9 rfl rfl)
theorem dX11_copyTree_199 : decode cX11_copyTree 199 = .ok (.getfield 42, 3) := dk_180 0 42 (dk_at dksX11_copyTree_8 10 rfl rfl)
theorem dX11_copyTree_202 : decode cX11_copyTree 202 = .ok (.sipush 700, 3) := dk_17 2 188 (dk_at dksX11_copyTree_8 13 rfl rfl)
theorem dX11_copyTree_205 : decode cX11_copyTree 205 = .ok (.iload_n 2, 1) := dk_28 (dk_at dksX11_copyTree_8 16 rfl rfl)
theorem dX11_copyTree_206 : decode cX11_copyTree 206 = .ok (.imul, 1) := dk_104 (dk_at dksX11_copyTree_8 17 rfl rfl)
theorem dX11_copyTree_207 : decode cX11_copyTree 207 = .ok (.iload_n 3, 1) := dk_29 (dk_at dksX11_copyTree_8 18 rfl rfl)
theorem dX11_copyTree_208 : decode cX11_copyTree 208 = .ok (.iadd, 1) := dk_96 (dk_at dksX11_copyTree_8 19 rfl rfl)
theorem dX11_copyTree_209 : decode cX11_copyTree 209 = .ok (.aload_n 0, 1) := dk_42 (dk_at dksX11_copyTree_8 20 rfl rfl)
theorem dX11_copyTree_210 : decode cX11_copyTree 210 = .ok (.getfield 42, 3) := dk_180 0 42 (dk_at dksX11_copyTree_8 21 rfl rfl)
theorem dX11_copyTree_213 : decode cX11_copyTree 213 = .ok (.sipush 700, 3) := dk_17 2 188 (dk_at dksX11_copyTree_9 0 rfl rfl)
theorem dX11_copyTree_216 : decode cX11_copyTree 216 = .ok (.iload_n 1, 1) := dk_27 (dk_at dksX11_copyTree_9 3 rfl rfl)
theorem dX11_copyTree_217 : decode cX11_copyTree 217 = .ok (.imul, 1) := dk_104 (dk_at dksX11_copyTree_9 4 rfl rfl)
theorem dX11_copyTree_218 : decode cX11_copyTree 218 = .ok (.iload_n 3, 1) := dk_29 (dk_at dksX11_copyTree_9 5 rfl rfl)
theorem dX11_copyTree_219 : decode cX11_copyTree 219 = .ok (.iadd, 1) := dk_96 (dk_at dksX11_copyTree_9 6 rfl rfl)
theorem dX11_copyTree_220 : decode cX11_copyTree 220 = .ok (.iaload, 1) := dk_46 (dk_at dksX11_copyTree_9 7 rfl rfl)
theorem dX11_copyTree_221 : decode cX11_copyTree 221 = .ok (.iastore, 1) := dk_79 (dk_at dksX11_copyTree_9 8 rfl rfl)
theorem dX11_copyTree_222 : decode cX11_copyTree 222 = .ok (.iinc 3 1, 3) := dk_132 3 1 (dk_at dksX11_copyTree_9 9 rfl rfl)
theorem dX11_copyTree_225 : decode cX11_copyTree 225 = .ok (.goto (-85), 3) := dk_167 255 171 (dk_at dksX11_copyTree_9 12 rfl rfl)
theorem dX11_copyTree_228 : decode cX11_copyTree 228 = .ok (.aload_n 0, 1) := dk_42 (dk_at dksX11_copyTree_9 15 rfl rfl)
theorem dX11_copyTree_229 : decode cX11_copyTree 229 = .ok (.getfield 45, 3) := dk_180 0 45 (dk_at dksX11_copyTree_9 16 rfl rfl)
theorem dX11_copyTree_232 : decode cX11_copyTree 232 = .ok (.iload_n 2, 1) := dk_28 (dk_at dksX11_copyTree_9 19 rfl rfl)
theorem dX11_copyTree_233 : decode cX11_copyTree 233 = .ok (.aload_n 0, 1) := dk_42 (dk_at dksX11_copyTree_9 20 rfl rfl)
theorem dX11_copyTree_234 : decode cX11_copyTree 234 = .ok (.getfield 45, 3) := dk_180 0 45 (dk_at dksX11_copyTree_9 21 rfl rfl)
theorem dX11_copyTree_237 : decode cX11_copyTree 237 = .ok (.iload_n 1, 1) := dk_27 (dk_at dksX11_copyTree_10 0 rfl rfl)
theorem dX11_copyTree_238 : decode cX11_copyTree 238 = .ok (.iaload, 1) := dk_46 (dk_at dksX11_copyTree_10 1 rfl rfl)
theorem dX11_copyTree_239 : decode cX11_copyTree 239 = .ok (.iastore, 1) := dk_79 (dk_at dksX11_copyTree_10 2 rfl rfl)
theorem dX11_copyTree_240 : decode cX11_copyTree 240 = .ok (.iconst 0, 1) := dk_3 (dk_at dksX11_copyTree_10 3 rfl rfl)
theorem dX11_copyTree_241 : decode cX11_copyTree 241 = .ok (.istore_n 3, 1) := dk_62 (dk_at dksX11_copyTree_10 4 rfl rfl)
theorem dX11_copyTree_242 : decode cX11_copyTree 242 = .ok (.iload_n 3, 1) := dk_29 (dk_at dksX11_copyTree_10 5 rfl rfl)
theorem dX11_copyTree_243 : decode cX11_copyTree 243 = .ok (.aload_n 0, 1) := dk_42 (dk_at dksX11_copyTree_10 6 rfl rfl)
theorem dX11_copyTree_244 : decode cX11_copyTree 244 = .ok (.getfield 45, 3) := dk_180 0 45 (dk_at dksX11_copyTree_10 7 rfl rfl)
theorem dX11_copyTree_247 : decode cX11_copyTree 247 = .ok (.iload_n 1, 1) := dk_27 (dk_at dksX11_copyTree_10 10 rfl rfl)
theorem dX11_copyTree_248 : decode cX11_copyTree 248 = .ok (.iaload, 1) := dk_46 (dk_at dksX11_copyTree_10 11 rfl rfl)
theorem dX11_copyTree_249 : decode cX11_copyTree 249 = .ok (.if_icmp .ge 81, 3) := dk_162 0 81 (dk_at dksX11_copyTree_10 12 rfl rfl)
theorem dX11_copyTree_252 : decode cX11_copyTree 252 = .ok (.aload_n 0, 1) := dk_42 (dk_at dksX11_copyTree_10 15 rfl rfl)
theorem dX11_copyTree_253 : decode cX11_copyTree 253 = .ok (.getfield 48, 3) := dk_180 0 48 (dk_at dksX11_copyTree_10 16 rfl rfl)
theorem dX11_copyTree_256 : decode cX11_copyTree 256 = .ok (.sipush 700, 3) := dk_17 2 188 (dk_at dksX11_copyTree_10 19 rfl rfl)
theorem dX11_copyTree_259 : decode cX11_copyTree 259 = .ok (.iload_n 2, 1) := dk_28 (dk_at dksX11_copyTree_10 22 rfl rfl)
theorem dX11_copyTree_260 : decode cX11_copyTree 260 = .ok (.imul, 1) := dk_104 (dk_at dksX11_copyTree_10 23 rfl rfl)
theorem dX11_copyTree_261 : decode cX11_copyTree 261 = .ok (.iload_n 3, 1) := dk_29 (dk_at dksX11_copyTree_11 0 rfl rfl)
theorem dX11_copyTree_262 : decode cX11_copyTree 262 = .ok (.iadd, 1) := dk_96 (dk_at dksX11_copyTree_11 1 rfl rfl)
theorem dX11_copyTree_263 : decode cX11_copyTree 263 = .ok (.aload_n 0, 1) := dk_42 (dk_at dksX11_copyTree_11 2 rfl rfl)
theorem dX11_copyTree_264 : decode cX11_copyTree 264 = .ok (.getfield 48, 3) := dk_180 0 48 (dk_at dksX11_copyTree_11 3 rfl rfl)
theorem dX11_copyTree_267 : decode cX11_copyTree 267 = .ok (.sipush 700, 3) := dk_17 2 188 (dk_at dksX11_copyTree_11 6 rfl rfl)
theorem dX11_copyTree_270 : decode cX11_copyTree 270 = .ok (.iload_n 1, 1) := dk_27 (dk_at dksX11_copyTree_11 9 rfl rfl)
theorem dX11_copyTree_271 : decode cX11_copyTree 271 = .ok (.imul, 1) := dk_104 (dk_at dksX11_copyTree_11 10 rfl rfl)
theorem dX11_copyTree_272 : decode cX11_copyTree 272 = .ok (.iload_n 3, 1) := dk_29 (dk_at dksX11_copyTree_11 11 rfl rfl)
theorem dX11_copyTree_273 : decode cX11_copyTree 273 = .ok (.iadd, 1) := dk_96 (dk_at dksX11_copyTree_11 12 rfl rfl)
theorem dX11_copyTree_274 : decode cX11_copyTree 274 = .ok (.iaload, 1) := dk_46 (dk_at dksX11_copyTree_11 13 rfl rfl)
theorem dX11_copyTree_275 : decode cX11_copyTree 275 = .ok (.iastore, 1) := dk_79 (dk_at dksX11_copyTree_11 14 rfl rfl)
theorem dX11_copyTree_276 : decode cX11_copyTree 276 = .ok (.aload_n 0, 1) := dk_42 (dk_at dksX11_copyTree_11 15 rfl rfl)
theorem dX11_copyTree_277 : decode cX11_copyTree 277 = .ok (.getfield 51, 3) := dk_180 0 51 (dk_at dksX11_copyTree_11 16 rfl rfl)
theorem dX11_copyTree_280 : decode cX11_copyTree 280 = .ok (.sipush 700, 3) := dk_17 2 188 (dk_at dksX11_copyTree_11 19 rfl rfl)
theorem dX11_copyTree_283 : decode cX11_copyTree 283 = .ok (.iload_n 2, 1) := dk_28 (dk_at dksX11_copyTree_11 22 rfl rfl)
theorem dX11_copyTree_284 : decode cX11_copyTree 284 = .ok (.imul, 1) := dk_104 (dk_at dksX11_copyTree_11 23 rfl rfl)
theorem dX11_copyTree_285 : decode cX11_copyTree 285 = .ok (.iload_n 3, 1) := dk_29 (dk_at dksX11_copyTree_12 0 rfl rfl)
theorem dX11_copyTree_286 : decode cX11_copyTree 286 = .ok (.iadd, 1) := dk_96 (dk_at dksX11_copyTree_12 1 rfl rfl)
theorem dX11_copyTree_287 : decode cX11_copyTree 287 = .ok (.aload_n 0, 1) := dk_42 (dk_at dksX11_copyTree_12 2 rfl rfl)
theorem dX11_copyTree_288 : decode cX11_copyTree 288 = .ok (.getfield 51, 3) := dk_180 0 51 (dk_at dksX11_copyTree_12 3 rfl rfl)
theorem dX11_copyTree_291 : decode cX11_copyTree 291 = .ok (.sipush 700, 3) := dk_17 2 188 (dk_at dksX11_copyTree_12 6 rfl rfl)
theorem dX11_copyTree_294 : decode cX11_copyTree 294 = .ok (.iload_n 1, 1) := dk_27 (dk_at dksX11_copyTree_12 9 rfl rfl)
theorem dX11_copyTree_295 : decode cX11_copyTree 295 = .ok (.imul, 1) := dk_104 (dk_at dksX11_copyTree_12 10 rfl rfl)
theorem dX11_copyTree_296 : decode cX11_copyTree 296 = .ok (.iload_n 3, 1) := dk_29 (dk_at dksX11_copyTree_12 11 rfl rfl)
theorem dX11_copyTree_297 : decode cX11_copyTree 297 = .ok (.iadd, 1) := dk_96 (dk_at dksX11_copyTree_12 12 rfl rfl)
theorem dX11_copyTree_298 : decode cX11_copyTree 298 = .ok (.laload, 1) := dk_47 (dk_at dksX11_copyTree_12 13 rfl rfl)
theorem dX11_copyTree_299 : decode cX11_copyTree 299 = .ok (.lastore, 1) := dk_80 (dk_at dksX11_copyTree_12 14 rfl rfl)
theorem dX11_copyTree_300 : decode cX11_copyTree 300 = .ok (.aload_n 0, 1) := dk_42 (dk_at dksX11_copyTree_12 15 rfl rfl)
theorem dX11_copyTree_301 : decode cX11_copyTree 301 = .ok (.getfield 54, 3) := dk_180 0 54 (dk_at dksX11_copyTree_12 16 rfl rfl)
theorem dX11_copyTree_304 : decode cX11_copyTree 304 = .ok (.sipush 700, 3) := dk_17 2 188 (dk_at dksX11_copyTree_12 19 rfl rfl)
theorem dX11_copyTree_307 : decode cX11_copyTree 307 = .ok (.iload_n 2, 1) := dk_28 (dk_at dksX11_copyTree_12 22 rfl rfl)
theorem dX11_copyTree_308 : decode cX11_copyTree 308 = .ok (.imul, 1) := dk_104 (dk_at dksX11_copyTree_12 23 rfl rfl)
theorem dX11_copyTree_309 : decode cX11_copyTree 309 = .ok (.iload_n 3, 1) := dk_29 (dk_at dksX11_copyTree_13 0 rfl rfl)
theorem dX11_copyTree_310 : decode cX11_copyTree 310 = .ok (.iadd, 1) := dk_96 (dk_at dksX11_copyTree_13 1 rfl rfl)
theorem dX11_copyTree_311 : decode cX11_copyTree 311 = .ok (.aload_n 0, 1) := dk_42 (dk_at dksX11_copyTree_13 2 rfl rfl)
theorem dX11_copyTree_312 : decode cX11_copyTree 312 = .ok (.getfield 54, 3) := dk_180 0 54 (dk_at dksX11_copyTree_13 3 rfl rfl)
theorem dX11_copyTree_315 : decode cX11_copyTree 315 = .ok (.sipush 700, 3) := dk_17 2 188 (dk_at dksX11_copyTree_13 6 rfl rfl)
theorem dX11_copyTree_318 : decode cX11_copyTree 318 = .ok (.iload_n 1, 1) := dk_27 (dk_at dksX11_copyTree_13 9 rfl rfl)
theorem dX11_copyTree_319 : decode cX11_copyTree 319 = .ok (.imul, 1) := dk_104 (dk_at dksX11_copyTree_13 10 rfl rfl)
theorem dX11_copyTree_320 : decode cX11_copyTree 320 = .ok (.iload_n 3, 1) := dk_29 (dk_at dksX11_copyTree_13 11 rfl rfl)
theorem dX11_copyTree_321 : decode cX11_copyTree 321 = .ok (.iadd, 1) := dk_96 (dk_at dksX11_copyTree_13 12 rfl rfl)
theorem dX11_copyTree_322 : decode cX11_copyTree 322 = .ok (.laload, 1) := dk_47 (dk_at dksX11_copyTree_13 13 rfl rfl)
theorem dX11_copyTree_323 : decode cX11_copyTree 323 = .ok (.lastore, 1) := dk_80 (dk_at dksX11_copyTree_13 14 rfl rfl)
theorem dX11_copyTree_324 : decode cX11_copyTree 324 = .ok (.iinc 3 1, 3) := dk_132 3 1 (dk_at dksX11_copyTree_13 15 rfl rfl)
theorem dX11_copyTree_327 : decode cX11_copyTree 327 = .ok (.goto (-85), 3) := dk_167 255 171 (dk_at dksX11_copyTree_13 18 rfl rfl)
theorem dX11_copyTree_330 : decode cX11_copyTree 330 = .ok (.iconst 0, 1) := dk_3 (dk_at dksX11_copyTree_13 21 rfl rfl)
theorem dX11_copyTree_331 : decode cX11_copyTree 331 = .ok (.istore_n 3, 1) := dk_62 (dk_at dksX11_copyTree_13 22 rfl rfl)
theorem dX11_copyTree_332 : decode cX11_copyTree 332 = .ok (.iload_n 3, 1) := dk_29 (dk_at dksX11_copyTree_13 23 rfl rfl)
theorem dX11_copyTree_333 : decode cX11_copyTree 333 = .ok (.aload_n 0, 1) := dk_42 (dk_at dksX11_copyTree_14 0 rfl rfl)
theorem dX11_copyTree_334 : decode cX11_copyTree 334 = .ok (.getfield 57, 3) := dk_180 0 57 (dk_at dksX11_copyTree_14 1 rfl rfl)
theorem dX11_copyTree_337 : decode cX11_copyTree 337 = .ok (.iload_n 1, 1) := dk_27 (dk_at dksX11_copyTree_14 4 rfl rfl)
theorem dX11_copyTree_338 : decode cX11_copyTree 338 = .ok (.iaload, 1) := dk_46 (dk_at dksX11_copyTree_14 5 rfl rfl)
theorem dX11_copyTree_339 : decode cX11_copyTree 339 = .ok (.if_icmp .ge 133, 3) := dk_162 0 133 (dk_at dksX11_copyTree_14 6 rfl rfl)
theorem dX11_copyTree_342 : decode cX11_copyTree 342 = .ok (.aload_n 0, 1) := dk_42 (dk_at dksX11_copyTree_14 9 rfl rfl)
theorem dX11_copyTree_343 : decode cX11_copyTree 343 = .ok (.getfield 60, 3) := dk_180 0 60 (dk_at dksX11_copyTree_14 10 rfl rfl)
theorem dX11_copyTree_346 : decode cX11_copyTree 346 = .ok (.sipush 720, 3) := dk_17 2 208 (dk_at dksX11_copyTree_14 13 rfl rfl)
theorem dX11_copyTree_349 : decode cX11_copyTree 349 = .ok (.iload_n 2, 1) := dk_28 (dk_at dksX11_copyTree_14 16 rfl rfl)
theorem dX11_copyTree_350 : decode cX11_copyTree 350 = .ok (.imul, 1) := dk_104 (dk_at dksX11_copyTree_14 17 rfl rfl)
theorem dX11_copyTree_351 : decode cX11_copyTree 351 = .ok (.iload_n 3, 1) := dk_29 (dk_at dksX11_copyTree_14 18 rfl rfl)
theorem dX11_copyTree_352 : decode cX11_copyTree 352 = .ok (.iadd, 1) := dk_96 (dk_at dksX11_copyTree_14 19 rfl rfl)
theorem dX11_copyTree_353 : decode cX11_copyTree 353 = .ok (.aload_n 0, 1) := dk_42 (dk_at dksX11_copyTree_14 20 rfl rfl)
theorem dX11_copyTree_354 : decode cX11_copyTree 354 = .ok (.getfield 60, 3) := dk_180 0 60 (dk_at dksX11_copyTree_14 21 rfl rfl)
theorem dX11_copyTree_357 : decode cX11_copyTree 357 = .ok (.sipush 720, 3) := dk_17 2 208 (dk_at dksX11_copyTree_15 0 rfl rfl)
theorem dX11_copyTree_360 : decode cX11_copyTree 360 = .ok (.iload_n 1, 1) := dk_27 (dk_at dksX11_copyTree_15 3 rfl rfl)
theorem dX11_copyTree_361 : decode cX11_copyTree 361 = .ok (.imul, 1) := dk_104 (dk_at dksX11_copyTree_15 4 rfl rfl)
theorem dX11_copyTree_362 : decode cX11_copyTree 362 = .ok (.iload_n 3, 1) := dk_29 (dk_at dksX11_copyTree_15 5 rfl rfl)
theorem dX11_copyTree_363 : decode cX11_copyTree 363 = .ok (.iadd, 1) := dk_96 (dk_at dksX11_copyTree_15 6 rfl rfl)
theorem dX11_copyTree_364 : decode cX11_copyTree 364 = .ok (.iaload, 1) := dk_46 (dk_at dksX11_copyTree_15 7 rfl rfl)
theorem dX11_copyTree_365 : decode cX11_copyTree 365 = .ok (.iastore, 1) := dk_79 (dk_at dksX11_copyTree_15 8 rfl rfl)
theorem dX11_copyTree_366 : decode cX11_copyTree 366 = .ok (.aload_n 0, 1) := dk_42 (dk_at dksX11_copyTree_15 9 rfl rfl)
theorem dX11_copyTree_367 : decode cX11_copyTree 367 = .ok (.getfield 63, 3) := dk_180 0 63 (dk_at dksX11_copyTree_15 10 rfl rfl)
theorem dX11_copyTree_370 : decode cX11_copyTree 370 = .ok (.sipush 720, 3) := dk_17 2 208 (dk_at dksX11_copyTree_15 13 rfl rfl)
theorem dX11_copyTree_373 : decode cX11_copyTree 373 = .ok (.iload_n 2, 1) := dk_28 (dk_at dksX11_copyTree_15 16 rfl rfl)
theorem dX11_copyTree_374 : decode cX11_copyTree 374 = .ok (.imul, 1) := dk_104 (dk_at dksX11_copyTree_15 17 rfl rfl)
theorem dX11_copyTree_375 : decode cX11_copyTree 375 = .ok (.iload_n 3, 1) := dk_29 (dk_at dksX11_copyTree_15 18 rfl rfl)
theorem dX11_copyTree_376 : decode cX11_copyTree 376 = .ok (.iadd, 1) := dk_96 (dk_at dksX11_copyTree_15 19 rfl rfl)
theorem dX11_copyTree_377 : decode cX11_copyTree 377 = .ok (.aload_n 0, 1) := dk_42 (dk_at dksX11_copyTree_15 20 rfl rfl)
theorem dX11_copyTree_378 : decode cX11_copyTree 378 = .ok (.getfield 63, 3) := dk_180 0 63 (dk_at dksX11_copyTree_15 21 rfl rfl)
theorem dX11_copyTree_381 : decode cX11_copyTree 381 = .ok (.sipush 720, 3) := dk_17 2 208 (dk_at dksX11_copyTree_16 0 rfl rfl)
theorem dX11_copyTree_384 : decode cX11_copyTree 384 = .ok (.iload_n 1, 1) := dk_27 (dk_at dksX11_copyTree_16 3 rfl rfl)
theorem dX11_copyTree_385 : decode cX11_copyTree 385 = .ok (.imul, 1) := dk_104 (dk_at dksX11_copyTree_16 4 rfl rfl)
theorem dX11_copyTree_386 : decode cX11_copyTree 386 = .ok (.iload_n 3, 1) := dk_29 (dk_at dksX11_copyTree_16 5 rfl rfl)
theorem dX11_copyTree_387 : decode cX11_copyTree 387 = .ok (.iadd, 1) := dk_96 (dk_at dksX11_copyTree_16 6 rfl rfl)
theorem dX11_copyTree_388 : decode cX11_copyTree 388 = .ok (.iaload, 1) := dk_46 (dk_at dksX11_copyTree_16 7 rfl rfl)
theorem dX11_copyTree_389 : decode cX11_copyTree 389 = .ok (.iastore, 1) := dk_79 (dk_at dksX11_copyTree_16 8 rfl rfl)
theorem dX11_copyTree_390 : decode cX11_copyTree 390 = .ok (.aload_n 0, 1) := dk_42 (dk_at dksX11_copyTree_16 9 rfl rfl)
theorem dX11_copyTree_391 : decode cX11_copyTree 391 = .ok (.getfield 66, 3) := dk_180 0 66 (dk_at dksX11_copyTree_16 10 rfl rfl)
theorem dX11_copyTree_394 : decode cX11_copyTree 394 = .ok (.sipush 720, 3) := dk_17 2 208 (dk_at dksX11_copyTree_16 13 rfl rfl)
theorem dX11_copyTree_397 : decode cX11_copyTree 397 = .ok (.iload_n 2, 1) := dk_28 (dk_at dksX11_copyTree_16 16 rfl rfl)
theorem dX11_copyTree_398 : decode cX11_copyTree 398 = .ok (.imul, 1) := dk_104 (dk_at dksX11_copyTree_16 17 rfl rfl)
theorem dX11_copyTree_399 : decode cX11_copyTree 399 = .ok (.iload_n 3, 1) := dk_29 (dk_at dksX11_copyTree_16 18 rfl rfl)
theorem dX11_copyTree_400 : decode cX11_copyTree 400 = .ok (.iadd, 1) := dk_96 (dk_at dksX11_copyTree_16 19 rfl rfl)
theorem dX11_copyTree_401 : decode cX11_copyTree 401 = .ok (.aload_n 0, 1) := dk_42 (dk_at dksX11_copyTree_16 20 rfl rfl)
theorem dX11_copyTree_402 : decode cX11_copyTree 402 = .ok (.getfield 66, 3) := dk_180 0 66 (dk_at dksX11_copyTree_16 21 rfl rfl)
theorem dX11_copyTree_405 : decode cX11_copyTree 405 = .ok (.sipush 720, 3) := dk_17 2 208 (dk_at dksX11_copyTree_17 0 rfl rfl)
theorem dX11_copyTree_408 : decode cX11_copyTree 408 = .ok (.iload_n 1, 1) := dk_27 (dk_at dksX11_copyTree_17 3 rfl rfl)
theorem dX11_copyTree_409 : decode cX11_copyTree 409 = .ok (.imul, 1) := dk_104 (dk_at dksX11_copyTree_17 4 rfl rfl)
theorem dX11_copyTree_410 : decode cX11_copyTree 410 = .ok (.iload_n 3, 1) := dk_29 (dk_at dksX11_copyTree_17 5 rfl rfl)
theorem dX11_copyTree_411 : decode cX11_copyTree 411 = .ok (.iadd, 1) := dk_96 (dk_at dksX11_copyTree_17 6 rfl rfl)
theorem dX11_copyTree_412 : decode cX11_copyTree 412 = .ok (.iaload, 1) := dk_46 (dk_at dksX11_copyTree_17 7 rfl rfl)
theorem dX11_copyTree_413 : decode cX11_copyTree 413 = .ok (.iastore, 1) := dk_79 (dk_at dksX11_copyTree_17 8 rfl rfl)
theorem dX11_copyTree_414 : decode cX11_copyTree 414 = .ok (.iconst 0, 1) := dk_3 (dk_at dksX11_copyTree_17 9 rfl rfl)
theorem dX11_copyTree_415 : decode cX11_copyTree 415 = .ok (.istore 4, 2) := dk_54 4 (dk_at dksX11_copyTree_17 10 rfl rfl)
theorem dX11_copyTree_417 : decode cX11_copyTree 417 = .ok (.iload 4, 2) := dk_21 4 (dk_at dksX11_copyTree_17 12 rfl rfl)
theorem dX11_copyTree_419 : decode cX11_copyTree 419 = .ok (.bipush 64, 2) := dk_16 64 (dk_at dksX11_copyTree_17 14 rfl rfl)
theorem dX11_copyTree_421 : decode cX11_copyTree 421 = .ok (.if_icmp .ge 45, 3) := dk_162 0 45 (dk_at dksX11_copyTree_17 16 rfl rfl)
theorem dX11_copyTree_424 : decode cX11_copyTree 424 = .ok (.aload_n 0, 1) := dk_42 (dk_at dksX11_copyTree_17 19 rfl rfl)
theorem dX11_copyTree_425 : decode cX11_copyTree 425 = .ok (.getfield 70, 3) := dk_180 0 70 (dk_at dksX11_copyTree_17 20 rfl rfl)
theorem dX11_copyTree_428 : decode cX11_copyTree 428 = .ok (.bipush 64, 2) := dk_16 64 (dk_at dksX11_copyTree_18 0 rfl rfl)
theorem dX11_copyTree_430 : decode cX11_copyTree 430 = .ok (.sipush 720, 3) := dk_17 2 208 (dk_at dksX11_copyTree_18 2 rfl rfl)
theorem dX11_copyTree_433 : decode cX11_copyTree 433 = .ok (.iload_n 2, 1) := dk_28 (dk_at dksX11_copyTree_18 5 rfl rfl)
theorem dX11_copyTree_434 : decode cX11_copyTree 434 = .ok (.imul, 1) := dk_104 (dk_at dksX11_copyTree_18 6 rfl rfl)
theorem dX11_copyTree_435 : decode cX11_copyTree 435 = .ok (.iload_n 3, 1) := dk_29 (dk_at dksX11_copyTree_18 7 rfl rfl)
theorem dX11_copyTree_436 : decode cX11_copyTree 436 = .ok (.iadd, 1) := dk_96 (dk_at dksX11_copyTree_18 8 rfl rfl)
theorem dX11_copyTree_437 : decode cX11_copyTree 437 = .ok (.imul, 1) := dk_104 (dk_at dksX11_copyTree_18 9 rfl rfl)
theorem dX11_copyTree_438 : decode cX11_copyTree 438 = .ok (.iload 4, 2) := dk_21 4 (dk_at dksX11_copyTree_18 10 rfl rfl)
theorem dX11_copyTree_440 : decode cX11_copyTree 440 = .ok (.iadd, 1) := dk_96 (dk_at dksX11_copyTree_18 12 rfl rfl)
theorem dX11_copyTree_441 : decode cX11_copyTree 441 = .ok (.aload_n 0, 1) := dk_42 (dk_at dksX11_copyTree_18 13 rfl rfl)
theorem dX11_copyTree_442 : decode cX11_copyTree 442 = .ok (.getfield 70, 3) := dk_180 0 70 (dk_at dksX11_copyTree_18 14 rfl rfl)
theorem dX11_copyTree_445 : decode cX11_copyTree 445 = .ok (.bipush 64, 2) := dk_16 64 (dk_at dksX11_copyTree_18 17 rfl rfl)
theorem dX11_copyTree_447 : decode cX11_copyTree 447 = .ok (.sipush 720, 3) := dk_17 2 208 (dk_at dksX11_copyTree_18 19 rfl rfl)
theorem dX11_copyTree_450 : decode cX11_copyTree 450 = .ok (.iload_n 1, 1) := dk_27 (dk_at dksX11_copyTree_18 22 rfl rfl)
theorem dX11_copyTree_451 : decode cX11_copyTree 451 = .ok (.imul, 1) := dk_104 (dk_at dksX11_copyTree_18 23 rfl rfl)
theorem dX11_copyTree_452 : decode cX11_copyTree 452 = .ok (.iload_n 3, 1) := dk_29 (dk_at dksX11_copyTree_19 0 rfl rfl)
theorem dX11_copyTree_453 : decode cX11_copyTree 453 = .ok (.iadd, 1) := dk_96 (dk_at dksX11_copyTree_19 1 rfl rfl)
theorem dX11_copyTree_454 : decode cX11_copyTree 454 = .ok (.imul, 1) := dk_104 (dk_at dksX11_copyTree_19 2 rfl rfl)
theorem dX11_copyTree_455 : decode cX11_copyTree 455 = .ok (.iload 4, 2) := dk_21 4 (dk_at dksX11_copyTree_19 3 rfl rfl)
theorem dX11_copyTree_457 : decode cX11_copyTree 457 = .ok (.iadd, 1) := dk_96 (dk_at dksX11_copyTree_19 5 rfl rfl)
theorem dX11_copyTree_458 : decode cX11_copyTree 458 = .ok (.baload, 1) := dk_51 (dk_at dksX11_copyTree_19 6 rfl rfl)
theorem dX11_copyTree_459 : decode cX11_copyTree 459 = .ok (.bastore, 1) := dk_84 (dk_at dksX11_copyTree_19 7 rfl rfl)
theorem dX11_copyTree_460 : decode cX11_copyTree 460 = .ok (.iinc 4 1, 3) := dk_132 4 1 (dk_at dksX11_copyTree_19 8 rfl rfl)
theorem dX11_copyTree_463 : decode cX11_copyTree 463 = .ok (.goto (-46), 3) := dk_167 255 210 (dk_at dksX11_copyTree_19 11 rfl rfl)
theorem dX11_copyTree_466 : decode cX11_copyTree 466 = .ok (.iinc 3 1, 3) := dk_132 3 1 (dk_at dksX11_copyTree_19 14 rfl rfl)
theorem dX11_copyTree_469 : decode cX11_copyTree 469 = .ok (.goto (-137), 3) := dk_167 255 119 (dk_at dksX11_copyTree_19 17 rfl rfl)
theorem dX11_copyTree_472 : decode cX11_copyTree 472 = .ok (.return_, 1) := dk_177 (dk_at dksX11_copyTree_19 20 rfl rfl)
abbrev cX11_on : ByteArray := prog_12_method_88_code
def yX11_on : MethodName := ⟨RX11, "on", "()I"⟩
def dkwX11_on_1 : List UInt8 := [180, 1, 53, 172]
abbrev dktX11_on_1 : List UInt8 := dkwX11_on_1 ++ []
def dkwX11_on_0 : List UInt8 := [42, 180, 0, 7, 153, 0, 5, 2, 172, 42, 4, 181, 0, 7, 42, 42, 180, 0, 126, 181, 0, 136, 42]
abbrev dktX11_on_0 : List UInt8 := dkwX11_on_0 ++ dktX11_on_1
theorem dksX11_on_0 : cX11_on.data.toList.drop 0 = dktX11_on_0 := by decide +kernel
theorem dksX11_on_1 : cX11_on.data.toList.drop 23 = dktX11_on_1 := dk_seg dksX11_on_0 23 rfl rfl
theorem dX11_on_0 : decode cX11_on 0 = .ok (.aload_n 0, 1) := dk_42 (dk_at dksX11_on_0 0 rfl rfl)
theorem dX11_on_1 : decode cX11_on 1 = .ok (.getfield 7, 3) := dk_180 0 7 (dk_at dksX11_on_0 1 rfl rfl)
theorem dX11_on_4 : decode cX11_on 4 = .ok (.ifCond .eq 5, 3) := dk_153 0 5 (dk_at dksX11_on_0 4 rfl rfl)
theorem dX11_on_7 : decode cX11_on 7 = .ok (.iconst (-1), 1) := dk_2 (dk_at dksX11_on_0 7 rfl rfl)
theorem dX11_on_8 : decode cX11_on 8 = .ok (.ireturn, 1) := dk_172 (dk_at dksX11_on_0 8 rfl rfl)
theorem dX11_on_9 : decode cX11_on 9 = .ok (.aload_n 0, 1) := dk_42 (dk_at dksX11_on_0 9 rfl rfl)
theorem dX11_on_10 : decode cX11_on 10 = .ok (.iconst 1, 1) := dk_4 (dk_at dksX11_on_0 10 rfl rfl)
theorem dX11_on_11 : decode cX11_on 11 = .ok (.putfield 7, 3) := dk_181 0 7 (dk_at dksX11_on_0 11 rfl rfl)
theorem dX11_on_14 : decode cX11_on 14 = .ok (.aload_n 0, 1) := dk_42 (dk_at dksX11_on_0 14 rfl rfl)
theorem dX11_on_15 : decode cX11_on 15 = .ok (.aload_n 0, 1) := dk_42 (dk_at dksX11_on_0 15 rfl rfl)
theorem dX11_on_16 : decode cX11_on 16 = .ok (.getfield 126, 3) := dk_180 0 126 (dk_at dksX11_on_0 16 rfl rfl)
theorem dX11_on_19 : decode cX11_on 19 = .ok (.putfield 136, 3) := dk_181 0 136 (dk_at dksX11_on_0 19 rfl rfl)
theorem dX11_on_22 : decode cX11_on 22 = .ok (.aload_n 0, 1) := dk_42 (dk_at dksX11_on_0 22 rfl rfl)
theorem dX11_on_23 : decode cX11_on 23 = .ok (.getfield 309, 3) := dk_180 1 53 (dk_at dksX11_on_1 0 rfl rfl)
theorem dX11_on_26 : decode cX11_on 26 = .ok (.ireturn, 1) := dk_172 (dk_at dksX11_on_1 3 rfl rfl)
abbrev cX11_work : ByteArray := prog_12_method_89_code
def yX11_work : MethodName := ⟨RX11, "work", "()V"⟩
theorem dX11_work_0 : decode cX11_work 0 = .ok (.return_, 1) := by decide +kernel
abbrev cX11_fail : ByteArray := prog_12_method_90_code
def yX11_fail : MethodName := ⟨RX11, "fail", "(I)Z"⟩
def dkwX11_fail_2 : List UInt8 := [181, 1, 59, 28, 172]
abbrev dktX11_fail_2 : List UInt8 := dkwX11_fail_2 ++ []
def dkwX11_fail_1 : List UInt8 := [162, 0, 7, 4, 167, 0, 4, 3, 61, 42, 89, 180, 1, 59, 28, 153, 0, 7, 4, 167, 0, 4, 3, 96]
abbrev dktX11_fail_1 : List UInt8 := dkwX11_fail_1 ++ dktX11_fail_2
def dkwX11_fail_0 : List UInt8 := [42, 180, 0, 7, 153, 0, 26, 27, 158, 0, 22, 27, 17, 3, 232, 163, 0, 15, 42, 180, 1, 59, 7]
abbrev dktX11_fail_0 : List UInt8 := dkwX11_fail_0 ++ dktX11_fail_1
theorem dksX11_fail_0 : cX11_fail.data.toList.drop 0 = dktX11_fail_0 := by decide +kernel
theorem dksX11_fail_1 : cX11_fail.data.toList.drop 23 = dktX11_fail_1 := dk_seg dksX11_fail_0 23 rfl rfl
theorem dksX11_fail_2 : cX11_fail.data.toList.drop 47 = dktX11_fail_2 := dk_seg dksX11_fail_1 24 rfl rfl
theorem dX11_fail_0 : decode cX11_fail 0 = .ok (.aload_n 0, 1) := dk_42 (dk_at dksX11_fail_0 0 rfl rfl)
theorem dX11_fail_1 : decode cX11_fail 1 = .ok (.getfield 7, 3) := dk_180 0 7 (dk_at dksX11_fail_0 1 rfl rfl)
theorem dX11_fail_4 : decode cX11_fail 4 = .ok (.ifCond .eq 26, 3) := dk_153 0 26 (dk_at dksX11_fail_0 4 rfl rfl)
theorem dX11_fail_7 : decode cX11_fail 7 = .ok (.iload_n 1, 1) := dk_27 (dk_at dksX11_fail_0 7 rfl rfl)
theorem dX11_fail_8 : decode cX11_fail 8 = .ok (.ifCond .le 22, 3) := dk_158 0 22 (dk_at dksX11_fail_0 8 rfl rfl)
theorem dX11_fail_11 : decode cX11_fail 11 = .ok (.iload_n 1, 1) := dk_27 (dk_at dksX11_fail_0 11 rfl rfl)
theorem dX11_fail_12 : decode cX11_fail 12 = .ok (.sipush 1000, 3) := dk_17 3 232 (dk_at dksX11_fail_0 12 rfl rfl)
theorem dX11_fail_15 : decode cX11_fail 15 = .ok (.if_icmp .gt 15, 3) := dk_163 0 15 (dk_at dksX11_fail_0 15 rfl rfl)
theorem dX11_fail_18 : decode cX11_fail 18 = .ok (.aload_n 0, 1) := dk_42 (dk_at dksX11_fail_0 18 rfl rfl)
theorem dX11_fail_19 : decode cX11_fail 19 = .ok (.getfield 315, 3) := dk_180 1 59 (dk_at dksX11_fail_0 19 rfl rfl)
theorem dX11_fail_22 : decode cX11_fail 22 = .ok (.iconst 4, 1) := dk_7 (dk_at dksX11_fail_0 22 rfl rfl)
theorem dX11_fail_23 : decode cX11_fail 23 = .ok (.if_icmp .ge 7, 3) := dk_162 0 7 (dk_at dksX11_fail_1 0 rfl rfl)
theorem dX11_fail_26 : decode cX11_fail 26 = .ok (.iconst 1, 1) := dk_4 (dk_at dksX11_fail_1 3 rfl rfl)
theorem dX11_fail_27 : decode cX11_fail 27 = .ok (.goto 4, 3) := dk_167 0 4 (dk_at dksX11_fail_1 4 rfl rfl)
theorem dX11_fail_30 : decode cX11_fail 30 = .ok (.iconst 0, 1) := dk_3 (dk_at dksX11_fail_1 7 rfl rfl)
theorem dX11_fail_31 : decode cX11_fail 31 = .ok (.istore_n 2, 1) := dk_61 (dk_at dksX11_fail_1 8 rfl rfl)
theorem dX11_fail_32 : decode cX11_fail 32 = .ok (.aload_n 0, 1) := dk_42 (dk_at dksX11_fail_1 9 rfl rfl)
theorem dX11_fail_33 : decode cX11_fail 33 = .ok (.dup, 1) := dk_89 (dk_at dksX11_fail_1 10 rfl rfl)
theorem dX11_fail_34 : decode cX11_fail 34 = .ok (.getfield 315, 3) := dk_180 1 59 (dk_at dksX11_fail_1 11 rfl rfl)
theorem dX11_fail_37 : decode cX11_fail 37 = .ok (.iload_n 2, 1) := dk_28 (dk_at dksX11_fail_1 14 rfl rfl)
theorem dX11_fail_38 : decode cX11_fail 38 = .ok (.ifCond .eq 7, 3) := dk_153 0 7 (dk_at dksX11_fail_1 15 rfl rfl)
theorem dX11_fail_41 : decode cX11_fail 41 = .ok (.iconst 1, 1) := dk_4 (dk_at dksX11_fail_1 18 rfl rfl)
theorem dX11_fail_42 : decode cX11_fail 42 = .ok (.goto 4, 3) := dk_167 0 4 (dk_at dksX11_fail_1 19 rfl rfl)
theorem dX11_fail_45 : decode cX11_fail 45 = .ok (.iconst 0, 1) := dk_3 (dk_at dksX11_fail_1 22 rfl rfl)
theorem dX11_fail_46 : decode cX11_fail 46 = .ok (.iadd, 1) := dk_96 (dk_at dksX11_fail_1 23 rfl rfl)
theorem dX11_fail_47 : decode cX11_fail 47 = .ok (.putfield 315, 3) := dk_181 1 59 (dk_at dksX11_fail_2 0 rfl rfl)
theorem dX11_fail_50 : decode cX11_fail 50 = .ok (.iload_n 2, 1) := dk_28 (dk_at dksX11_fail_2 3 rfl rfl)
theorem dX11_fail_51 : decode cX11_fail 51 = .ok (.ireturn, 1) := dk_172 (dk_at dksX11_fail_2 4 rfl rfl)
abbrev cX11_flip : ByteArray := prog_12_method_91_code
def yX11_flip : MethodName := ⟨RX11, "flip", "(I)Z"⟩
def dkwX11_flip_2 : List UInt8 := [172]
abbrev dktX11_flip_2 : List UInt8 := dkwX11_flip_2 ++ []
def dkwX11_flip_1 : List UInt8 := [167, 0, 4, 3, 61, 42, 89, 180, 1, 62, 28, 153, 0, 7, 4, 167, 0, 4, 3, 96, 181, 1, 62, 28]
abbrev dktX11_flip_1 : List UInt8 := dkwX11_flip_1 ++ dktX11_flip_2
def dkwX11_flip_0 : List UInt8 := [42, 180, 0, 7, 153, 0, 21, 27, 155, 0, 17, 42, 180, 1, 62, 17, 0, 200, 162, 0, 7, 4]
abbrev dktX11_flip_0 : List UInt8 := dkwX11_flip_0 ++ dktX11_flip_1
theorem dksX11_flip_0 : cX11_flip.data.toList.drop 0 = dktX11_flip_0 := by decide +kernel
theorem dksX11_flip_1 : cX11_flip.data.toList.drop 22 = dktX11_flip_1 := dk_seg dksX11_flip_0 22 rfl rfl
theorem dksX11_flip_2 : cX11_flip.data.toList.drop 46 = dktX11_flip_2 := dk_seg dksX11_flip_1 24 rfl rfl
theorem dX11_flip_0 : decode cX11_flip 0 = .ok (.aload_n 0, 1) := dk_42 (dk_at dksX11_flip_0 0 rfl rfl)
theorem dX11_flip_1 : decode cX11_flip 1 = .ok (.getfield 7, 3) := dk_180 0 7 (dk_at dksX11_flip_0 1 rfl rfl)
theorem dX11_flip_4 : decode cX11_flip 4 = .ok (.ifCond .eq 21, 3) := dk_153 0 21 (dk_at dksX11_flip_0 4 rfl rfl)
theorem dX11_flip_7 : decode cX11_flip 7 = .ok (.iload_n 1, 1) := dk_27 (dk_at dksX11_flip_0 7 rfl rfl)
theorem dX11_flip_8 : decode cX11_flip 8 = .ok (.ifCond .lt 17, 3) := dk_155 0 17 (dk_at dksX11_flip_0 8 rfl rfl)
theorem dX11_flip_11 : decode cX11_flip 11 = .ok (.aload_n 0, 1) := dk_42 (dk_at dksX11_flip_0 11 rfl rfl)
theorem dX11_flip_12 : decode cX11_flip 12 = .ok (.getfield 318, 3) := dk_180 1 62 (dk_at dksX11_flip_0 12 rfl rfl)
theorem dX11_flip_15 : decode cX11_flip 15 = .ok (.sipush 200, 3) := dk_17 0 200 (dk_at dksX11_flip_0 15 rfl rfl)
theorem dX11_flip_18 : decode cX11_flip 18 = .ok (.if_icmp .ge 7, 3) := dk_162 0 7 (dk_at dksX11_flip_0 18 rfl rfl)
theorem dX11_flip_21 : decode cX11_flip 21 = .ok (.iconst 1, 1) := dk_4 (dk_at dksX11_flip_0 21 rfl rfl)
theorem dX11_flip_22 : decode cX11_flip 22 = .ok (.goto 4, 3) := dk_167 0 4 (dk_at dksX11_flip_1 0 rfl rfl)
theorem dX11_flip_25 : decode cX11_flip 25 = .ok (.iconst 0, 1) := dk_3 (dk_at dksX11_flip_1 3 rfl rfl)
theorem dX11_flip_26 : decode cX11_flip 26 = .ok (.istore_n 2, 1) := dk_61 (dk_at dksX11_flip_1 4 rfl rfl)
theorem dX11_flip_27 : decode cX11_flip 27 = .ok (.aload_n 0, 1) := dk_42 (dk_at dksX11_flip_1 5 rfl rfl)
theorem dX11_flip_28 : decode cX11_flip 28 = .ok (.dup, 1) := dk_89 (dk_at dksX11_flip_1 6 rfl rfl)
theorem dX11_flip_29 : decode cX11_flip 29 = .ok (.getfield 318, 3) := dk_180 1 62 (dk_at dksX11_flip_1 7 rfl rfl)
theorem dX11_flip_32 : decode cX11_flip 32 = .ok (.iload_n 2, 1) := dk_28 (dk_at dksX11_flip_1 10 rfl rfl)
theorem dX11_flip_33 : decode cX11_flip 33 = .ok (.ifCond .eq 7, 3) := dk_153 0 7 (dk_at dksX11_flip_1 11 rfl rfl)
theorem dX11_flip_36 : decode cX11_flip 36 = .ok (.iconst 1, 1) := dk_4 (dk_at dksX11_flip_1 14 rfl rfl)
theorem dX11_flip_37 : decode cX11_flip 37 = .ok (.goto 4, 3) := dk_167 0 4 (dk_at dksX11_flip_1 15 rfl rfl)
theorem dX11_flip_40 : decode cX11_flip 40 = .ok (.iconst 0, 1) := dk_3 (dk_at dksX11_flip_1 18 rfl rfl)
theorem dX11_flip_41 : decode cX11_flip 41 = .ok (.iadd, 1) := dk_96 (dk_at dksX11_flip_1 19 rfl rfl)
theorem dX11_flip_42 : decode cX11_flip 42 = .ok (.putfield 318, 3) := dk_181 1 62 (dk_at dksX11_flip_1 20 rfl rfl)
theorem dX11_flip_45 : decode cX11_flip 45 = .ok (.iload_n 2, 1) := dk_28 (dk_at dksX11_flip_1 23 rfl rfl)
theorem dX11_flip_46 : decode cX11_flip 46 = .ok (.ireturn, 1) := dk_172 (dk_at dksX11_flip_2 0 rfl rfl)
abbrev cX11_told : ByteArray := prog_12_method_92_code
def yX11_told : MethodName := ⟨RX11, "told", "(I)I"⟩
def dkwX11_told_5 : List UInt8 := [172]
abbrev dktX11_told_5 : List UInt8 := dkwX11_told_5 ++ []
def dkwX11_told_4 : List UInt8 := [42, 180, 0, 17, 3, 46, 172, 42, 180, 1, 59, 172, 42, 180, 1, 62, 172, 42, 180, 0, 213, 172, 16, 253]
abbrev dktX11_told_4 : List UInt8 := dkwX11_told_4 ++ dktX11_told_5
def dkwX11_told_3 : List UInt8 := [42, 182, 0, 219, 172, 42, 180, 0, 133, 172, 42, 180, 0, 20, 3, 46, 172, 28, 172, 42, 180, 0, 136, 172]
abbrev dktX11_told_3 : List UInt8 := dkwX11_told_3 ++ dktX11_told_4
def dkwX11_told_2 : List UInt8 := [170, 0, 0, 0, 0, 0, 0, 98, 0, 0, 0, 0, 0, 0, 0, 8, 0, 0, 0, 52, 0, 0, 0, 57, 0, 0, 0, 62, 0, 0, 0, 69, 0, 0, 0, 71, 0, 0, 0, 76, 0, 0, 0, 83, 0, 0, 0, 88, 0, 0, 0, 93]
abbrev dktX11_told_2 : List UInt8 := dkwX11_told_2 ++ dktX11_told_3
def dkwX11_told_1 : List UInt8 := [180, 0, 13, 29, 46, 153, 0, 7, 4, 167, 0, 4, 3, 96, 61, 132, 3, 1, 167, 255, 230, 27]
abbrev dktX11_told_1 : List UInt8 := dkwX11_told_1 ++ dktX11_told_2
def dkwX11_told_0 : List UInt8 := [42, 180, 0, 7, 154, 0, 6, 16, 254, 172, 3, 61, 3, 62, 29, 16, 8, 162, 0, 26, 28, 42]
abbrev dktX11_told_0 : List UInt8 := dkwX11_told_0 ++ dktX11_told_1
theorem dksX11_told_0 : cX11_told.data.toList.drop 0 = dktX11_told_0 := by decide +kernel
theorem dksX11_told_1 : cX11_told.data.toList.drop 22 = dktX11_told_1 := dk_seg dksX11_told_0 22 rfl rfl
theorem dksX11_told_2 : cX11_told.data.toList.drop 44 = dktX11_told_2 := dk_seg dksX11_told_1 22 rfl rfl
theorem dksX11_told_3 : cX11_told.data.toList.drop 96 = dktX11_told_3 := dk_seg dksX11_told_2 52 rfl rfl
theorem dksX11_told_4 : cX11_told.data.toList.drop 120 = dktX11_told_4 := dk_seg dksX11_told_3 24 rfl rfl
theorem dksX11_told_5 : cX11_told.data.toList.drop 144 = dktX11_told_5 := dk_seg dksX11_told_4 24 rfl rfl
theorem dX11_told_0 : decode cX11_told 0 = .ok (.aload_n 0, 1) := dk_42 (dk_at dksX11_told_0 0 rfl rfl)
theorem dX11_told_1 : decode cX11_told 1 = .ok (.getfield 7, 3) := dk_180 0 7 (dk_at dksX11_told_0 1 rfl rfl)
theorem dX11_told_4 : decode cX11_told 4 = .ok (.ifCond .ne 6, 3) := dk_154 0 6 (dk_at dksX11_told_0 4 rfl rfl)
theorem dX11_told_7 : decode cX11_told 7 = .ok (.bipush (-2), 2) := dk_16 254 (dk_at dksX11_told_0 7 rfl rfl)
theorem dX11_told_9 : decode cX11_told 9 = .ok (.ireturn, 1) := dk_172 (dk_at dksX11_told_0 9 rfl rfl)
theorem dX11_told_10 : decode cX11_told 10 = .ok (.iconst 0, 1) := dk_3 (dk_at dksX11_told_0 10 rfl rfl)
theorem dX11_told_11 : decode cX11_told 11 = .ok (.istore_n 2, 1) := dk_61 (dk_at dksX11_told_0 11 rfl rfl)
theorem dX11_told_12 : decode cX11_told 12 = .ok (.iconst 0, 1) := dk_3 (dk_at dksX11_told_0 12 rfl rfl)
theorem dX11_told_13 : decode cX11_told 13 = .ok (.istore_n 3, 1) := dk_62 (dk_at dksX11_told_0 13 rfl rfl)
theorem dX11_told_14 : decode cX11_told 14 = .ok (.iload_n 3, 1) := dk_29 (dk_at dksX11_told_0 14 rfl rfl)
theorem dX11_told_15 : decode cX11_told 15 = .ok (.bipush 8, 2) := dk_16 8 (dk_at dksX11_told_0 15 rfl rfl)
theorem dX11_told_17 : decode cX11_told 17 = .ok (.if_icmp .ge 26, 3) := dk_162 0 26 (dk_at dksX11_told_0 17 rfl rfl)
theorem dX11_told_20 : decode cX11_told 20 = .ok (.iload_n 2, 1) := dk_28 (dk_at dksX11_told_0 20 rfl rfl)
theorem dX11_told_21 : decode cX11_told 21 = .ok (.aload_n 0, 1) := dk_42 (dk_at dksX11_told_0 21 rfl rfl)
theorem dX11_told_22 : decode cX11_told 22 = .ok (.getfield 13, 3) := dk_180 0 13 (dk_at dksX11_told_1 0 rfl rfl)
theorem dX11_told_25 : decode cX11_told 25 = .ok (.iload_n 3, 1) := dk_29 (dk_at dksX11_told_1 3 rfl rfl)
theorem dX11_told_26 : decode cX11_told 26 = .ok (.iaload, 1) := dk_46 (dk_at dksX11_told_1 4 rfl rfl)
theorem dX11_told_27 : decode cX11_told 27 = .ok (.ifCond .eq 7, 3) := dk_153 0 7 (dk_at dksX11_told_1 5 rfl rfl)
theorem dX11_told_30 : decode cX11_told 30 = .ok (.iconst 1, 1) := dk_4 (dk_at dksX11_told_1 8 rfl rfl)
theorem dX11_told_31 : decode cX11_told 31 = .ok (.goto 4, 3) := dk_167 0 4 (dk_at dksX11_told_1 9 rfl rfl)
theorem dX11_told_34 : decode cX11_told 34 = .ok (.iconst 0, 1) := dk_3 (dk_at dksX11_told_1 12 rfl rfl)
theorem dX11_told_35 : decode cX11_told 35 = .ok (.iadd, 1) := dk_96 (dk_at dksX11_told_1 13 rfl rfl)
theorem dX11_told_36 : decode cX11_told 36 = .ok (.istore_n 2, 1) := dk_61 (dk_at dksX11_told_1 14 rfl rfl)
theorem dX11_told_37 : decode cX11_told 37 = .ok (.iinc 3 1, 3) := dk_132 3 1 (dk_at dksX11_told_1 15 rfl rfl)
theorem dX11_told_40 : decode cX11_told 40 = .ok (.goto (-26), 3) := dk_167 255 230 (dk_at dksX11_told_1 18 rfl rfl)
theorem dX11_told_43 : decode cX11_told 43 = .ok (.iload_n 1, 1) := dk_27 (dk_at dksX11_told_1 21 rfl rfl)
theorem dX11_told_44 : decode cX11_told 44 = .ok (.tableswitch 98 0 8 #[52, 57, 62, 69, 71, 76, 83, 88, 93], 52) := by decide +kernel
theorem dX11_told_96 : decode cX11_told 96 = .ok (.aload_n 0, 1) := dk_42 (dk_at dksX11_told_3 0 rfl rfl)
theorem dX11_told_97 : decode cX11_told 97 = .ok (.invokevirtual 219, 3) := dk_182 0 219 (dk_at dksX11_told_3 1 rfl rfl)
theorem dX11_told_100 : decode cX11_told 100 = .ok (.ireturn, 1) := dk_172 (dk_at dksX11_told_3 4 rfl rfl)
theorem dX11_told_101 : decode cX11_told 101 = .ok (.aload_n 0, 1) := dk_42 (dk_at dksX11_told_3 5 rfl rfl)
theorem dX11_told_102 : decode cX11_told 102 = .ok (.getfield 133, 3) := dk_180 0 133 (dk_at dksX11_told_3 6 rfl rfl)
theorem dX11_told_105 : decode cX11_told 105 = .ok (.ireturn, 1) := dk_172 (dk_at dksX11_told_3 9 rfl rfl)
theorem dX11_told_106 : decode cX11_told 106 = .ok (.aload_n 0, 1) := dk_42 (dk_at dksX11_told_3 10 rfl rfl)
theorem dX11_told_107 : decode cX11_told 107 = .ok (.getfield 20, 3) := dk_180 0 20 (dk_at dksX11_told_3 11 rfl rfl)
theorem dX11_told_110 : decode cX11_told 110 = .ok (.iconst 0, 1) := dk_3 (dk_at dksX11_told_3 14 rfl rfl)
theorem dX11_told_111 : decode cX11_told 111 = .ok (.iaload, 1) := dk_46 (dk_at dksX11_told_3 15 rfl rfl)
theorem dX11_told_112 : decode cX11_told 112 = .ok (.ireturn, 1) := dk_172 (dk_at dksX11_told_3 16 rfl rfl)
theorem dX11_told_113 : decode cX11_told 113 = .ok (.iload_n 2, 1) := dk_28 (dk_at dksX11_told_3 17 rfl rfl)
theorem dX11_told_114 : decode cX11_told 114 = .ok (.ireturn, 1) := dk_172 (dk_at dksX11_told_3 18 rfl rfl)
theorem dX11_told_115 : decode cX11_told 115 = .ok (.aload_n 0, 1) := dk_42 (dk_at dksX11_told_3 19 rfl rfl)
theorem dX11_told_116 : decode cX11_told 116 = .ok (.getfield 136, 3) := dk_180 0 136 (dk_at dksX11_told_3 20 rfl rfl)
theorem dX11_told_119 : decode cX11_told 119 = .ok (.ireturn, 1) := dk_172 (dk_at dksX11_told_3 23 rfl rfl)
theorem dX11_told_120 : decode cX11_told 120 = .ok (.aload_n 0, 1) := dk_42 (dk_at dksX11_told_4 0 rfl rfl)
theorem dX11_told_121 : decode cX11_told 121 = .ok (.getfield 17, 3) := dk_180 0 17 (dk_at dksX11_told_4 1 rfl rfl)
theorem dX11_told_124 : decode cX11_told 124 = .ok (.iconst 0, 1) := dk_3 (dk_at dksX11_told_4 4 rfl rfl)
theorem dX11_told_125 : decode cX11_told 125 = .ok (.iaload, 1) := dk_46 (dk_at dksX11_told_4 5 rfl rfl)
theorem dX11_told_126 : decode cX11_told 126 = .ok (.ireturn, 1) := dk_172 (dk_at dksX11_told_4 6 rfl rfl)
theorem dX11_told_127 : decode cX11_told 127 = .ok (.aload_n 0, 1) := dk_42 (dk_at dksX11_told_4 7 rfl rfl)
theorem dX11_told_128 : decode cX11_told 128 = .ok (.getfield 315, 3) := dk_180 1 59 (dk_at dksX11_told_4 8 rfl rfl)
theorem dX11_told_131 : decode cX11_told 131 = .ok (.ireturn, 1) := dk_172 (dk_at dksX11_told_4 11 rfl rfl)
theorem dX11_told_132 : decode cX11_told 132 = .ok (.aload_n 0, 1) := dk_42 (dk_at dksX11_told_4 12 rfl rfl)
theorem dX11_told_133 : decode cX11_told 133 = .ok (.getfield 318, 3) := dk_180 1 62 (dk_at dksX11_told_4 13 rfl rfl)
theorem dX11_told_136 : decode cX11_told 136 = .ok (.ireturn, 1) := dk_172 (dk_at dksX11_told_4 16 rfl rfl)
theorem dX11_told_137 : decode cX11_told 137 = .ok (.aload_n 0, 1) := dk_42 (dk_at dksX11_told_4 17 rfl rfl)
theorem dX11_told_138 : decode cX11_told 138 = .ok (.getfield 213, 3) := dk_180 0 213 (dk_at dksX11_told_4 18 rfl rfl)
theorem dX11_told_141 : decode cX11_told 141 = .ok (.ireturn, 1) := dk_172 (dk_at dksX11_told_4 21 rfl rfl)
theorem dX11_told_142 : decode cX11_told 142 = .ok (.bipush (-3), 2) := dk_16 253 (dk_at dksX11_told_4 22 rfl rfl)
theorem dX11_told_144 : decode cX11_told 144 = .ok (.ireturn, 1) := dk_172 (dk_at dksX11_told_5 0 rfl rfl)
abbrev cX11_sound : ByteArray := prog_12_method_93_code
def yX11_sound : MethodName := ⟨RX11, "sound", "()Z"⟩
theorem dX11_sound_0 : decode cX11_sound 0 = .ok (.aload_n 0, 1) := by decide +kernel
theorem dX11_sound_1 : decode cX11_sound 1 = .ok (.getfield 7, 3) := by decide +kernel
theorem dX11_sound_4 : decode cX11_sound 4 = .ok (.ireturn, 1) := by decide +kernel
theorem q150 : (Jvm.Cond.initialized "NandHouseModel") ∈ lw_all := lw_g (lw_at lw_m1 20 rfl) rfl
theorem q1844 : (Jvm.Cond.instantiable "NandHouseModel" (49 : Nat)) ∈ lw_all := lw_g (lw_at lw_m8 34 rfl) rfl
theorem q1846 : (Jvm.Cond.instanceMethod ({ cls := "NandHouseModel", name := "<init>", desc := "(III)V" } : Jvm.MethodName)) ∈ lw_all := lw_g (lw_at lw_m8 36 rfl) rfl
theorem q1847 : (Jvm.Cond.code ({ cls := "NandHouseModel", name := "<init>", desc := "(III)V" } : Jvm.MethodName) prog_12_method_1_code (7 : Nat) (Option.none : Option Jvm.ClassFile.FieldType)) ∈ lw_all := lw_g (lw_at lw_m8 37 rfl) rfl
theorem q1848 : (Jvm.Cond.methodLink "NandHouseModel" (1 : Nat) ({ cls := "java/lang/Object", name := "<init>", desc := "()V" } : Jvm.MethodName)) ∈ lw_all := lw_g (lw_at lw_m8 38 rfl) rfl
theorem q1849 : (Jvm.Cond.constant "NandHouseModel" (69 : Nat) (92160 : Int32)) ∈ lw_all := lw_g (lw_at lw_m8 39 rfl) rfl
theorem q1850 : (Jvm.Cond.methodLink "NandHouseModel" (139 : Nat) ({ cls := "NandHouseModel", name := "addNode", desc := "(II)V" } : Jvm.MethodName)) ∈ lw_all := lw_g (lw_at lw_m8 40 rfl) rfl
theorem q1851 : (Jvm.Cond.privateMethod ({ cls := "NandHouseModel", name := "addNode", desc := "(II)V" } : Jvm.MethodName)) ∈ lw_tbl := lw_at lw_m8 41 rfl
theorem q1852 : (Jvm.Cond.instanceMethod ({ cls := "NandHouseModel", name := "addNode", desc := "(II)V" } : Jvm.MethodName)) ∈ lw_all := lw_g (lw_at lw_m8 42 rfl) rfl
theorem q1853 : (Jvm.Cond.code ({ cls := "NandHouseModel", name := "addNode", desc := "(II)V" } : Jvm.MethodName) prog_12_method_3_code (4 : Nat) (Option.none : Option Jvm.ClassFile.FieldType)) ∈ lw_all := lw_g (lw_at lw_m8 43 rfl) rfl
theorem q1854 : (Jvm.Cond.fieldLink "NandHouseModel" (126 : Nat) "NandHouseModel" "stretch" "I") ∈ lw_all := lw_g (lw_at lw_m8 44 rfl) rfl
theorem q1855 : (Jvm.Cond.fieldLink "NandHouseModel" (133 : Nat) "NandHouseModel" "capacity" "I") ∈ lw_all := lw_g (lw_at lw_m8 45 rfl) rfl
theorem q1856 : (Jvm.Cond.fieldLink "NandHouseModel" (7 : Nat) "NandHouseModel" "isOn" "Z") ∈ lw_all := lw_g (lw_at lw_m8 46 rfl) rfl
theorem q1857 : (Jvm.Cond.fieldLink "NandHouseModel" (136 : Nat) "NandHouseModel" "place" "I") ∈ lw_all := lw_g (lw_at lw_m8 47 rfl) rfl
theorem q1858 : (Jvm.Cond.fieldLink "NandHouseModel" (315 : Nat) "NandHouseModel" "granted" "I") ∈ lw_all := lw_g (lw_at lw_m8 48 rfl) rfl
theorem q1859 : (Jvm.Cond.fieldLink "NandHouseModel" (318 : Nat) "NandHouseModel" "flips" "I") ∈ lw_all := lw_g (lw_at lw_m8 49 rfl) rfl
theorem q1860 : (Jvm.Cond.fieldLink "NandHouseModel" (309 : Nat) "NandHouseModel" "lost" "I") ∈ lw_all := lw_g (lw_at lw_m8 50 rfl) rfl
theorem q1861 : (Jvm.Cond.fieldLink "NandHouseModel" (13 : Nat) "NandHouseModel" "handles" "[I") ∈ lw_all := lw_g (lw_at lw_m8 51 rfl) rfl
theorem q1862 : (Jvm.Cond.fieldLink "NandHouseModel" (17 : Nat) "NandHouseModel" "next" "[I") ∈ lw_all := lw_g (lw_at lw_m8 52 rfl) rfl
theorem q1863 : (Jvm.Cond.fieldLink "NandHouseModel" (20 : Nat) "NandHouseModel" "nodes" "[I") ∈ lw_all := lw_g (lw_at lw_m8 53 rfl) rfl
theorem q1864 : (Jvm.Cond.fieldLink "NandHouseModel" (23 : Nat) "NandHouseModel" "numbers" "[I") ∈ lw_all := lw_g (lw_at lw_m8 54 rfl) rfl
theorem q1865 : (Jvm.Cond.fieldLink "NandHouseModel" (26 : Nat) "NandHouseModel" "kinds" "[I") ∈ lw_all := lw_g (lw_at lw_m8 55 rfl) rfl
theorem q1866 : (Jvm.Cond.fieldLink "NandHouseModel" (29 : Nat) "NandHouseModel" "sizes" "[I") ∈ lw_all := lw_g (lw_at lw_m8 56 rfl) rfl
theorem q1867 : (Jvm.Cond.fieldLink "NandHouseModel" (32 : Nat) "NandHouseModel" "entries" "[I") ∈ lw_all := lw_g (lw_at lw_m8 57 rfl) rfl
theorem q1868 : (Jvm.Cond.fieldLink "NandHouseModel" (35 : Nat) "NandHouseModel" "holders" "[I") ∈ lw_all := lw_g (lw_at lw_m8 58 rfl) rfl
theorem q1869 : (Jvm.Cond.fieldLink "NandHouseModel" (38 : Nat) "NandHouseModel" "names" "[J") ∈ lw_all := lw_g (lw_at lw_m8 59 rfl) rfl
theorem q1870 : (Jvm.Cond.fieldLink "NandHouseModel" (42 : Nat) "NandHouseModel" "targets" "[I") ∈ lw_all := lw_g (lw_at lw_m8 60 rfl) rfl
theorem q1871 : (Jvm.Cond.fieldLink "NandHouseModel" (45 : Nat) "NandHouseModel" "attributes" "[I") ∈ lw_all := lw_g (lw_at lw_m8 61 rfl) rfl
theorem q1872 : (Jvm.Cond.fieldLink "NandHouseModel" (48 : Nat) "NandHouseModel" "bearers" "[I") ∈ lw_all := lw_g (lw_at lw_m8 62 rfl) rfl
theorem q1873 : (Jvm.Cond.fieldLink "NandHouseModel" (51 : Nat) "NandHouseModel" "keys" "[J") ∈ lw_all := lw_g (lw_at lw_m8 63 rfl) rfl
theorem q1874 : (Jvm.Cond.fieldLink "NandHouseModel" (54 : Nat) "NandHouseModel" "values" "[J") ∈ lw_all := lw_g (lw_at lw_m8 64 rfl) rfl
theorem q1875 : (Jvm.Cond.fieldLink "NandHouseModel" (57 : Nat) "NandHouseModel" "pieces" "[I") ∈ lw_all := lw_g (lw_at lw_m8 65 rfl) rfl
theorem q1876 : (Jvm.Cond.fieldLink "NandHouseModel" (60 : Nat) "NandHouseModel" "owners" "[I") ∈ lw_all := lw_g (lw_at lw_m8 66 rfl) rfl
theorem q1877 : (Jvm.Cond.fieldLink "NandHouseModel" (63 : Nat) "NandHouseModel" "which" "[I") ∈ lw_all := lw_g (lw_at lw_m8 67 rfl) rfl
theorem q1878 : (Jvm.Cond.fieldLink "NandHouseModel" (66 : Nat) "NandHouseModel" "lengths" "[I") ∈ lw_all := lw_g (lw_at lw_m8 68 rfl) rfl
theorem q1879 : (Jvm.Cond.fieldLink "NandHouseModel" (70 : Nat) "NandHouseModel" "bytes" "[B") ∈ lw_all := lw_g (lw_at lw_m8 69 rfl) rfl
theorem q1880 : (Jvm.Cond.fieldLink "NandHouseModel" (195 : Nat) "NandHouseModel" "waits" "I") ∈ lw_all := lw_g (lw_at lw_m8 70 rfl) rfl
theorem q1881 : (Jvm.Cond.fieldLink "NandHouseModel" (74 : Nat) "NandHouseModel" "ends" "[I") ∈ lw_all := lw_g (lw_at lw_m8 71 rfl) rfl
theorem q1882 : (Jvm.Cond.fieldLink "NandHouseModel" (77 : Nat) "NandHouseModel" "ops" "[I") ∈ lw_all := lw_g (lw_at lw_m8 72 rfl) rfl
theorem q1883 : (Jvm.Cond.fieldLink "NandHouseModel" (80 : Nat) "NandHouseModel" "one" "[I") ∈ lw_all := lw_g (lw_at lw_m8 73 rfl) rfl
theorem q1884 : (Jvm.Cond.fieldLink "NandHouseModel" (83 : Nat) "NandHouseModel" "two" "[I") ∈ lw_all := lw_g (lw_at lw_m8 74 rfl) rfl
theorem q1885 : (Jvm.Cond.fieldLink "NandHouseModel" (86 : Nat) "NandHouseModel" "three" "[I") ∈ lw_all := lw_g (lw_at lw_m8 75 rfl) rfl
theorem q1886 : (Jvm.Cond.fieldLink "NandHouseModel" (89 : Nat) "NandHouseModel" "four" "[I") ∈ lw_all := lw_g (lw_at lw_m8 76 rfl) rfl
theorem q1887 : (Jvm.Cond.fieldLink "NandHouseModel" (92 : Nat) "NandHouseModel" "gone" "[Z") ∈ lw_all := lw_g (lw_at lw_m8 77 rfl) rfl
theorem q1888 : (Jvm.Cond.fieldLink "NandHouseModel" (96 : Nat) "NandHouseModel" "nameA" "[J") ∈ lw_all := lw_g (lw_at lw_m8 78 rfl) rfl
theorem q1889 : (Jvm.Cond.fieldLink "NandHouseModel" (99 : Nat) "NandHouseModel" "nameB" "[J") ∈ lw_all := lw_g (lw_at lw_m8 79 rfl) rfl
theorem q1890 : (Jvm.Cond.fieldLink "NandHouseModel" (102 : Nat) "NandHouseModel" "rows" "[B") ∈ lw_all := lw_g (lw_at lw_m8 80 rfl) rfl
theorem q1891 : (Jvm.Cond.fieldLink "NandHouseModel" (105 : Nat) "NandHouseModel" "fresh" "[B") ∈ lw_all := lw_g (lw_at lw_m8 81 rfl) rfl
theorem q1892 : (Jvm.Cond.fieldLink "NandHouseModel" (108 : Nat) "NandHouseModel" "copied" "[B") ∈ lw_all := lw_g (lw_at lw_m8 82 rfl) rfl
theorem q1893 : (Jvm.Cond.fieldLink "NandHouseModel" (213 : Nat) "NandHouseModel" "taped" "I") ∈ lw_all := lw_g (lw_at lw_m8 83 rfl) rfl
theorem q1894 : (Jvm.Cond.fieldLink "NandHouseModel" (111 : Nat) "NandHouseModel" "tape" "[B") ∈ lw_all := lw_g (lw_at lw_m8 84 rfl) rfl
theorem q1895 : (Jvm.Cond.fieldLink "NandHouseModel" (254 : Nat) "NandHouseModel" "level" "I") ∈ lw_all := lw_g (lw_at lw_m8 85 rfl) rfl
theorem q1896 : (Jvm.Cond.fieldLink "NandHouseModel" (114 : Nat) "NandHouseModel" "sources" "[I") ∈ lw_all := lw_g (lw_at lw_m8 86 rfl) rfl
theorem q1897 : (Jvm.Cond.fieldLink "NandHouseModel" (117 : Nat) "NandHouseModel" "places" "[I") ∈ lw_all := lw_g (lw_at lw_m8 87 rfl) rfl
theorem q1898 : (Jvm.Cond.fieldLink "NandHouseModel" (260 : Nat) "NandHouseModel" "at" "I") ∈ lw_all := lw_g (lw_at lw_m8 88 rfl) rfl
theorem q1899 : (Jvm.Cond.fieldLink "NandHouseModel" (270 : Nat) "NandHouseModel" "signs" "I") ∈ lw_all := lw_g (lw_at lw_m8 89 rfl) rfl
theorem q1900 : (Jvm.Cond.fieldLink "NandHouseModel" (130 : Nat) "NandHouseModel" "raws" "I") ∈ lw_all := lw_g (lw_at lw_m8 90 rfl) rfl
theorem q1901 : (Jvm.Cond.fieldLink "NandHouseModel" (120 : Nat) "NandHouseModel" "rawPages" "[I") ∈ lw_all := lw_g (lw_at lw_m8 91 rfl) rfl
theorem q1902 : (Jvm.Cond.fieldLink "NandHouseModel" (123 : Nat) "NandHouseModel" "rawBytes" "[B") ∈ lw_all := lw_g (lw_at lw_m8 92 rfl) rfl
theorem q1903 : (Jvm.Cond.laysFinal "NandHouseModel" "NandHouseModel" "stretch" "I") ∈ lw_all := lw_g (lw_at lw_m8 93 rfl) rfl
theorem q1904 : (Jvm.Cond.soleField "NandHouseModel" "stretch") ∈ lw_all := lw_g (lw_at lw_m8 94 rfl) rfl
theorem q1905 : (Jvm.Cond.laysFinal "NandHouseModel" "NandHouseModel" "capacity" "I") ∈ lw_all := lw_g (lw_at lw_m8 95 rfl) rfl
theorem q1906 : (Jvm.Cond.soleField "NandHouseModel" "capacity") ∈ lw_all := lw_g (lw_at lw_m8 96 rfl) rfl
theorem q1907 : (Jvm.Cond.lays "NandHouseModel" "NandHouseModel" "isOn" "Z") ∈ lw_all := lw_g (lw_at lw_m8 97 rfl) rfl
theorem q1908 : (Jvm.Cond.soleField "NandHouseModel" "isOn") ∈ lw_all := lw_g (lw_at lw_m8 98 rfl) rfl
theorem q1909 : (Jvm.Cond.lays "NandHouseModel" "NandHouseModel" "place" "I") ∈ lw_all := lw_g (lw_at lw_m8 99 rfl) rfl
theorem q1910 : (Jvm.Cond.soleField "NandHouseModel" "place") ∈ lw_all := lw_g (lw_at lw_m8 100 rfl) rfl
theorem q1911 : (Jvm.Cond.lays "NandHouseModel" "NandHouseModel" "granted" "I") ∈ lw_all := lw_g (lw_at lw_m8 101 rfl) rfl
theorem q1912 : (Jvm.Cond.soleField "NandHouseModel" "granted") ∈ lw_all := lw_g (lw_at lw_m8 102 rfl) rfl
theorem q1913 : (Jvm.Cond.lays "NandHouseModel" "NandHouseModel" "flips" "I") ∈ lw_all := lw_g (lw_at lw_m8 103 rfl) rfl
theorem q1914 : (Jvm.Cond.soleField "NandHouseModel" "flips") ∈ lw_all := lw_g (lw_at lw_m8 104 rfl) rfl
theorem q1915 : (Jvm.Cond.lays "NandHouseModel" "NandHouseModel" "lost" "I") ∈ lw_all := lw_g (lw_at lw_m8 105 rfl) rfl
theorem q1916 : (Jvm.Cond.soleField "NandHouseModel" "lost") ∈ lw_all := lw_g (lw_at lw_m8 106 rfl) rfl
theorem q1917 : (Jvm.Cond.laysFinal "NandHouseModel" "NandHouseModel" "handles" "[I") ∈ lw_all := lw_g (lw_at lw_m8 107 rfl) rfl
theorem q1918 : (Jvm.Cond.soleField "NandHouseModel" "handles") ∈ lw_all := lw_g (lw_at lw_m8 108 rfl) rfl
theorem q1919 : (Jvm.Cond.laysFinal "NandHouseModel" "NandHouseModel" "next" "[I") ∈ lw_all := lw_g (lw_at lw_m8 109 rfl) rfl
theorem q1920 : (Jvm.Cond.soleField "NandHouseModel" "next") ∈ lw_all := lw_g (lw_at lw_m8 110 rfl) rfl
theorem q1921 : (Jvm.Cond.laysFinal "NandHouseModel" "NandHouseModel" "nodes" "[I") ∈ lw_all := lw_g (lw_at lw_m8 111 rfl) rfl
theorem q1922 : (Jvm.Cond.soleField "NandHouseModel" "nodes") ∈ lw_all := lw_g (lw_at lw_m8 112 rfl) rfl
theorem q1923 : (Jvm.Cond.laysFinal "NandHouseModel" "NandHouseModel" "numbers" "[I") ∈ lw_all := lw_g (lw_at lw_m8 113 rfl) rfl
theorem q1924 : (Jvm.Cond.soleField "NandHouseModel" "numbers") ∈ lw_all := lw_g (lw_at lw_m8 114 rfl) rfl
theorem q1925 : (Jvm.Cond.laysFinal "NandHouseModel" "NandHouseModel" "kinds" "[I") ∈ lw_all := lw_g (lw_at lw_m8 115 rfl) rfl
theorem q1926 : (Jvm.Cond.soleField "NandHouseModel" "kinds") ∈ lw_all := lw_g (lw_at lw_m8 116 rfl) rfl
theorem q1927 : (Jvm.Cond.laysFinal "NandHouseModel" "NandHouseModel" "sizes" "[I") ∈ lw_all := lw_g (lw_at lw_m8 117 rfl) rfl
theorem q1928 : (Jvm.Cond.soleField "NandHouseModel" "sizes") ∈ lw_all := lw_g (lw_at lw_m8 118 rfl) rfl
theorem q1929 : (Jvm.Cond.laysFinal "NandHouseModel" "NandHouseModel" "entries" "[I") ∈ lw_all := lw_g (lw_at lw_m8 119 rfl) rfl
theorem q1930 : (Jvm.Cond.soleField "NandHouseModel" "entries") ∈ lw_all := lw_g (lw_at lw_m8 120 rfl) rfl
theorem q1931 : (Jvm.Cond.laysFinal "NandHouseModel" "NandHouseModel" "holders" "[I") ∈ lw_all := lw_g (lw_at lw_m8 121 rfl) rfl
theorem q1932 : (Jvm.Cond.soleField "NandHouseModel" "holders") ∈ lw_all := lw_g (lw_at lw_m8 122 rfl) rfl
theorem q1933 : (Jvm.Cond.laysFinal "NandHouseModel" "NandHouseModel" "names" "[J") ∈ lw_all := lw_g (lw_at lw_m8 123 rfl) rfl
theorem q1934 : (Jvm.Cond.soleField "NandHouseModel" "names") ∈ lw_all := lw_g (lw_at lw_m8 124 rfl) rfl
theorem q1935 : (Jvm.Cond.laysFinal "NandHouseModel" "NandHouseModel" "targets" "[I") ∈ lw_all := lw_g (lw_at lw_m8 125 rfl) rfl
theorem q1936 : (Jvm.Cond.soleField "NandHouseModel" "targets") ∈ lw_all := lw_g (lw_at lw_m8 126 rfl) rfl
theorem q1937 : (Jvm.Cond.laysFinal "NandHouseModel" "NandHouseModel" "attributes" "[I") ∈ lw_all := lw_g (lw_at lw_m8 127 rfl) rfl
theorem q1938 : (Jvm.Cond.soleField "NandHouseModel" "attributes") ∈ lw_all := lw_g (lw_at lw_m8 128 rfl) rfl
theorem q1939 : (Jvm.Cond.laysFinal "NandHouseModel" "NandHouseModel" "bearers" "[I") ∈ lw_all := lw_g (lw_at lw_m8 129 rfl) rfl
theorem q1940 : (Jvm.Cond.soleField "NandHouseModel" "bearers") ∈ lw_all := lw_g (lw_at lw_m8 130 rfl) rfl
theorem q1941 : (Jvm.Cond.laysFinal "NandHouseModel" "NandHouseModel" "keys" "[J") ∈ lw_all := lw_g (lw_at lw_m8 131 rfl) rfl
theorem q1942 : (Jvm.Cond.soleField "NandHouseModel" "keys") ∈ lw_all := lw_g (lw_at lw_m8 132 rfl) rfl
theorem q1943 : (Jvm.Cond.laysFinal "NandHouseModel" "NandHouseModel" "values" "[J") ∈ lw_all := lw_g (lw_at lw_m8 133 rfl) rfl
theorem q1944 : (Jvm.Cond.soleField "NandHouseModel" "values") ∈ lw_all := lw_g (lw_at lw_m8 134 rfl) rfl
theorem q1945 : (Jvm.Cond.laysFinal "NandHouseModel" "NandHouseModel" "pieces" "[I") ∈ lw_all := lw_g (lw_at lw_m8 135 rfl) rfl
theorem q1946 : (Jvm.Cond.soleField "NandHouseModel" "pieces") ∈ lw_all := lw_g (lw_at lw_m8 136 rfl) rfl
theorem q1947 : (Jvm.Cond.laysFinal "NandHouseModel" "NandHouseModel" "owners" "[I") ∈ lw_all := lw_g (lw_at lw_m8 137 rfl) rfl
theorem q1948 : (Jvm.Cond.soleField "NandHouseModel" "owners") ∈ lw_all := lw_g (lw_at lw_m8 138 rfl) rfl
theorem q1949 : (Jvm.Cond.laysFinal "NandHouseModel" "NandHouseModel" "which" "[I") ∈ lw_all := lw_g (lw_at lw_m8 139 rfl) rfl
theorem q1950 : (Jvm.Cond.soleField "NandHouseModel" "which") ∈ lw_all := lw_g (lw_at lw_m8 140 rfl) rfl
theorem q1951 : (Jvm.Cond.laysFinal "NandHouseModel" "NandHouseModel" "lengths" "[I") ∈ lw_all := lw_g (lw_at lw_m8 141 rfl) rfl
theorem q1952 : (Jvm.Cond.soleField "NandHouseModel" "lengths") ∈ lw_all := lw_g (lw_at lw_m8 142 rfl) rfl
theorem q1953 : (Jvm.Cond.laysFinal "NandHouseModel" "NandHouseModel" "bytes" "[B") ∈ lw_all := lw_g (lw_at lw_m8 143 rfl) rfl
theorem q1954 : (Jvm.Cond.soleField "NandHouseModel" "bytes") ∈ lw_all := lw_g (lw_at lw_m8 144 rfl) rfl
theorem q1955 : (Jvm.Cond.lays "NandHouseModel" "NandHouseModel" "waits" "I") ∈ lw_all := lw_g (lw_at lw_m8 145 rfl) rfl
theorem q1956 : (Jvm.Cond.soleField "NandHouseModel" "waits") ∈ lw_all := lw_g (lw_at lw_m8 146 rfl) rfl
theorem q1957 : (Jvm.Cond.laysFinal "NandHouseModel" "NandHouseModel" "ends" "[I") ∈ lw_all := lw_g (lw_at lw_m8 147 rfl) rfl
theorem q1958 : (Jvm.Cond.soleField "NandHouseModel" "ends") ∈ lw_all := lw_g (lw_at lw_m8 148 rfl) rfl
theorem q1959 : (Jvm.Cond.laysFinal "NandHouseModel" "NandHouseModel" "ops" "[I") ∈ lw_all := lw_g (lw_at lw_m8 149 rfl) rfl
theorem q1960 : (Jvm.Cond.soleField "NandHouseModel" "ops") ∈ lw_all := lw_g (lw_at lw_m8 150 rfl) rfl
theorem q1961 : (Jvm.Cond.laysFinal "NandHouseModel" "NandHouseModel" "one" "[I") ∈ lw_all := lw_g (lw_at lw_m8 151 rfl) rfl
theorem q1962 : (Jvm.Cond.soleField "NandHouseModel" "one") ∈ lw_all := lw_g (lw_at lw_m8 152 rfl) rfl
theorem q1963 : (Jvm.Cond.laysFinal "NandHouseModel" "NandHouseModel" "two" "[I") ∈ lw_all := lw_g (lw_at lw_m8 153 rfl) rfl
theorem q1964 : (Jvm.Cond.soleField "NandHouseModel" "two") ∈ lw_all := lw_g (lw_at lw_m8 154 rfl) rfl
theorem q1965 : (Jvm.Cond.laysFinal "NandHouseModel" "NandHouseModel" "three" "[I") ∈ lw_all := lw_g (lw_at lw_m8 155 rfl) rfl
theorem q1966 : (Jvm.Cond.soleField "NandHouseModel" "three") ∈ lw_all := lw_g (lw_at lw_m8 156 rfl) rfl
theorem q1967 : (Jvm.Cond.laysFinal "NandHouseModel" "NandHouseModel" "four" "[I") ∈ lw_all := lw_g (lw_at lw_m8 157 rfl) rfl
theorem q1968 : (Jvm.Cond.soleField "NandHouseModel" "four") ∈ lw_all := lw_g (lw_at lw_m8 158 rfl) rfl
theorem q1969 : (Jvm.Cond.laysFinal "NandHouseModel" "NandHouseModel" "gone" "[Z") ∈ lw_all := lw_g (lw_at lw_m8 159 rfl) rfl
theorem q1970 : (Jvm.Cond.soleField "NandHouseModel" "gone") ∈ lw_all := lw_g (lw_at lw_m8 160 rfl) rfl
theorem q1971 : (Jvm.Cond.laysFinal "NandHouseModel" "NandHouseModel" "nameA" "[J") ∈ lw_all := lw_g (lw_at lw_m8 161 rfl) rfl
theorem q1972 : (Jvm.Cond.soleField "NandHouseModel" "nameA") ∈ lw_all := lw_g (lw_at lw_m8 162 rfl) rfl
theorem q1973 : (Jvm.Cond.laysFinal "NandHouseModel" "NandHouseModel" "nameB" "[J") ∈ lw_all := lw_g (lw_at lw_m8 163 rfl) rfl
theorem q1974 : (Jvm.Cond.soleField "NandHouseModel" "nameB") ∈ lw_all := lw_g (lw_at lw_m8 164 rfl) rfl
theorem q1975 : (Jvm.Cond.laysFinal "NandHouseModel" "NandHouseModel" "rows" "[B") ∈ lw_all := lw_g (lw_at lw_m8 165 rfl) rfl
theorem q1976 : (Jvm.Cond.soleField "NandHouseModel" "rows") ∈ lw_all := lw_g (lw_at lw_m8 166 rfl) rfl
theorem q1977 : (Jvm.Cond.laysFinal "NandHouseModel" "NandHouseModel" "fresh" "[B") ∈ lw_all := lw_g (lw_at lw_m8 167 rfl) rfl
theorem q1978 : (Jvm.Cond.soleField "NandHouseModel" "fresh") ∈ lw_all := lw_g (lw_at lw_m8 168 rfl) rfl
theorem q1979 : (Jvm.Cond.laysFinal "NandHouseModel" "NandHouseModel" "copied" "[B") ∈ lw_all := lw_g (lw_at lw_m8 169 rfl) rfl
theorem q1980 : (Jvm.Cond.soleField "NandHouseModel" "copied") ∈ lw_all := lw_g (lw_at lw_m8 170 rfl) rfl
theorem q1981 : (Jvm.Cond.lays "NandHouseModel" "NandHouseModel" "taped" "I") ∈ lw_all := lw_g (lw_at lw_m8 171 rfl) rfl
theorem q1982 : (Jvm.Cond.soleField "NandHouseModel" "taped") ∈ lw_all := lw_g (lw_at lw_m8 172 rfl) rfl
theorem q1983 : (Jvm.Cond.laysFinal "NandHouseModel" "NandHouseModel" "tape" "[B") ∈ lw_all := lw_g (lw_at lw_m8 173 rfl) rfl
theorem q1984 : (Jvm.Cond.soleField "NandHouseModel" "tape") ∈ lw_all := lw_g (lw_at lw_m8 174 rfl) rfl
theorem q1985 : (Jvm.Cond.lays "NandHouseModel" "NandHouseModel" "level" "I") ∈ lw_all := lw_g (lw_at lw_m8 175 rfl) rfl
theorem q1986 : (Jvm.Cond.soleField "NandHouseModel" "level") ∈ lw_all := lw_g (lw_at lw_m8 176 rfl) rfl
theorem q1987 : (Jvm.Cond.laysFinal "NandHouseModel" "NandHouseModel" "sources" "[I") ∈ lw_all := lw_g (lw_at lw_m8 177 rfl) rfl
theorem q1988 : (Jvm.Cond.soleField "NandHouseModel" "sources") ∈ lw_all := lw_g (lw_at lw_m8 178 rfl) rfl
theorem q1989 : (Jvm.Cond.laysFinal "NandHouseModel" "NandHouseModel" "places" "[I") ∈ lw_all := lw_g (lw_at lw_m8 179 rfl) rfl
theorem q1990 : (Jvm.Cond.soleField "NandHouseModel" "places") ∈ lw_all := lw_g (lw_at lw_m8 180 rfl) rfl
theorem q1991 : (Jvm.Cond.lays "NandHouseModel" "NandHouseModel" "at" "I") ∈ lw_all := lw_g (lw_at lw_m8 181 rfl) rfl
theorem q1992 : (Jvm.Cond.soleField "NandHouseModel" "at") ∈ lw_all := lw_g (lw_at lw_m8 182 rfl) rfl
theorem q1993 : (Jvm.Cond.lays "NandHouseModel" "NandHouseModel" "signs" "I") ∈ lw_all := lw_g (lw_at lw_m8 183 rfl) rfl
theorem q1994 : (Jvm.Cond.soleField "NandHouseModel" "signs") ∈ lw_all := lw_g (lw_at lw_m8 184 rfl) rfl
theorem q1995 : (Jvm.Cond.laysFinal "NandHouseModel" "NandHouseModel" "raws" "I") ∈ lw_all := lw_g (lw_at lw_m8 185 rfl) rfl
theorem q1996 : (Jvm.Cond.soleField "NandHouseModel" "raws") ∈ lw_all := lw_g (lw_at lw_m8 186 rfl) rfl
theorem q1997 : (Jvm.Cond.laysFinal "NandHouseModel" "NandHouseModel" "rawPages" "[I") ∈ lw_all := lw_g (lw_at lw_m8 187 rfl) rfl
theorem q1998 : (Jvm.Cond.soleField "NandHouseModel" "rawPages") ∈ lw_all := lw_g (lw_at lw_m8 188 rfl) rfl
theorem q1999 : (Jvm.Cond.laysFinal "NandHouseModel" "NandHouseModel" "rawBytes" "[B") ∈ lw_all := lw_g (lw_at lw_m8 189 rfl) rfl
theorem q2000 : (Jvm.Cond.soleField "NandHouseModel" "rawBytes") ∈ lw_all := lw_g (lw_at lw_m8 190 rfl) rfl
theorem q2001 : (Jvm.Cond.superclass "NandHouseModel" "java/lang/Object") ∈ lw_all := lw_g (lw_at lw_m8 191 rfl) rfl
theorem q2003 : (Jvm.Cond.instanceMethod ({ cls := "NandHouseModel", name := "create", desc := "(IJ)I" } : Jvm.MethodName)) ∈ lw_all := lw_g (lw_at lw_m8 193 rfl) rfl
theorem q2004 : (Jvm.Cond.selects "NandHouseModel" ({ cls := "NandHouseModel", name := "create", desc := "(IJ)I" } : Jvm.MethodName) ({ cls := "NandHouseModel", name := "create", desc := "(IJ)I" } : Jvm.MethodName)) ∈ lw_all := lw_g (lw_at lw_m8 194 rfl) rfl
theorem q2005 : (Jvm.Cond.code ({ cls := "NandHouseModel", name := "create", desc := "(IJ)I" } : Jvm.MethodName) prog_12_method_31_code (4 : Nat) (Option.some Jvm.ClassFile.FieldType.int)) ∈ lw_all := lw_g (lw_at lw_m8 195 rfl) rfl
theorem q2006 : (Jvm.Cond.methodLink "NandHouseModel" (229 : Nat) ({ cls := "NandHouseModel", name := "make", desc := "(IJI)I" } : Jvm.MethodName)) ∈ lw_all := lw_g (lw_at lw_m8 196 rfl) rfl
theorem q2007 : (Jvm.Cond.privateMethod ({ cls := "NandHouseModel", name := "make", desc := "(IJI)I" } : Jvm.MethodName)) ∈ lw_tbl := lw_at lw_m8 197 rfl
theorem q2008 : (Jvm.Cond.instanceMethod ({ cls := "NandHouseModel", name := "make", desc := "(IJI)I" } : Jvm.MethodName)) ∈ lw_all := lw_g (lw_at lw_m8 198 rfl) rfl
theorem q2009 : (Jvm.Cond.code ({ cls := "NandHouseModel", name := "make", desc := "(IJI)I" } : Jvm.MethodName) prog_12_method_30_code (9 : Nat) (Option.some Jvm.ClassFile.FieldType.int)) ∈ lw_all := lw_g (lw_at lw_m8 199 rfl) rfl
theorem q2010 : (Jvm.Cond.methodLink "NandHouseModel" (209 : Nat) ({ cls := "NandHouseModel", name := "isName", desc := "(J)Z" } : Jvm.MethodName)) ∈ lw_all := lw_g (lw_at lw_m8 200 rfl) rfl
theorem q2011 : (Jvm.Cond.static ({ cls := "NandHouseModel", name := "isName", desc := "(J)Z" } : Jvm.MethodName)) ∈ lw_all := lw_g (lw_at lw_m8 201 rfl) rfl
theorem q2012 : (Jvm.Cond.code ({ cls := "NandHouseModel", name := "isName", desc := "(J)Z" } : Jvm.MethodName) prog_12_method_27_code (6 : Nat) (Option.some Jvm.ClassFile.FieldType.boolean)) ∈ lw_all := lw_g (lw_at lw_m8 202 rfl) rfl
theorem q2013 : (Jvm.Cond.methodLink "NandHouseModel" (205 : Nat) ({ cls := "NandHouseModel", name := "letter", desc := "(JI)I" } : Jvm.MethodName)) ∈ lw_all := lw_g (lw_at lw_m8 203 rfl) rfl
theorem q2014 : (Jvm.Cond.static ({ cls := "NandHouseModel", name := "letter", desc := "(JI)I" } : Jvm.MethodName)) ∈ lw_all := lw_g (lw_at lw_m8 204 rfl) rfl
theorem q2015 : (Jvm.Cond.code ({ cls := "NandHouseModel", name := "letter", desc := "(JI)I" } : Jvm.MethodName) prog_12_method_26_code (3 : Nat) (Option.some Jvm.ClassFile.FieldType.int)) ∈ lw_all := lw_g (lw_at lw_m8 205 rfl) rfl
theorem q2016 : (Jvm.Cond.methodLink "NandHouseModel" (216 : Nat) ({ cls := "NandHouseModel", name := "askDirectory", desc := "(I)I" } : Jvm.MethodName)) ∈ lw_all := lw_g (lw_at lw_m8 206 rfl) rfl
theorem q2017 : (Jvm.Cond.privateMethod ({ cls := "NandHouseModel", name := "askDirectory", desc := "(I)I" } : Jvm.MethodName)) ∈ lw_tbl := lw_at lw_m8 207 rfl
theorem q2018 : (Jvm.Cond.instanceMethod ({ cls := "NandHouseModel", name := "askDirectory", desc := "(I)I" } : Jvm.MethodName)) ∈ lw_all := lw_g (lw_at lw_m8 208 rfl) rfl
theorem q2019 : (Jvm.Cond.code ({ cls := "NandHouseModel", name := "askDirectory", desc := "(I)I" } : Jvm.MethodName) prog_12_method_29_code (3 : Nat) (Option.some Jvm.ClassFile.FieldType.int)) ∈ lw_all := lw_g (lw_at lw_m8 209 rfl) rfl
theorem q2020 : (Jvm.Cond.methodLink "NandHouseModel" (143 : Nat) ({ cls := "NandHouseModel", name := "nodeOf", desc := "(II)I" } : Jvm.MethodName)) ∈ lw_all := lw_g (lw_at lw_m8 210 rfl) rfl
theorem q2021 : (Jvm.Cond.privateMethod ({ cls := "NandHouseModel", name := "nodeOf", desc := "(II)I" } : Jvm.MethodName)) ∈ lw_tbl := lw_at lw_m8 211 rfl
theorem q2022 : (Jvm.Cond.instanceMethod ({ cls := "NandHouseModel", name := "nodeOf", desc := "(II)I" } : Jvm.MethodName)) ∈ lw_all := lw_g (lw_at lw_m8 212 rfl) rfl
theorem q2023 : (Jvm.Cond.code ({ cls := "NandHouseModel", name := "nodeOf", desc := "(II)I" } : Jvm.MethodName) prog_12_method_4_code (5 : Nat) (Option.some Jvm.ClassFile.FieldType.int)) ∈ lw_all := lw_g (lw_at lw_m8 213 rfl) rfl
theorem q2024 : (Jvm.Cond.methodLink "NandHouseModel" (162 : Nat) ({ cls := "NandHouseModel", name := "entryOf", desc := "(IIJ)I" } : Jvm.MethodName)) ∈ lw_all := lw_g (lw_at lw_m8 214 rfl) rfl
theorem q2025 : (Jvm.Cond.privateMethod ({ cls := "NandHouseModel", name := "entryOf", desc := "(IIJ)I" } : Jvm.MethodName)) ∈ lw_tbl := lw_at lw_m8 215 rfl
theorem q2026 : (Jvm.Cond.instanceMethod ({ cls := "NandHouseModel", name := "entryOf", desc := "(IIJ)I" } : Jvm.MethodName)) ∈ lw_all := lw_g (lw_at lw_m8 216 rfl) rfl
theorem q2027 : (Jvm.Cond.code ({ cls := "NandHouseModel", name := "entryOf", desc := "(IIJ)I" } : Jvm.MethodName) prog_12_method_9_code (7 : Nat) (Option.some Jvm.ClassFile.FieldType.int)) ∈ lw_all := lw_g (lw_at lw_m8 217 rfl) rfl
theorem q2028 : (Jvm.Cond.methodLink "NandHouseModel" (219 : Nat) ({ cls := "NandHouseModel", name := "live", desc := "()I" } : Jvm.MethodName)) ∈ lw_all := lw_g (lw_at lw_m8 218 rfl) rfl
theorem q2029 : (Jvm.Cond.privateMethod ({ cls := "NandHouseModel", name := "live", desc := "()I" } : Jvm.MethodName)) ∈ lw_tbl := lw_at lw_m8 219 rfl
theorem q2030 : (Jvm.Cond.instanceMethod ({ cls := "NandHouseModel", name := "live", desc := "()I" } : Jvm.MethodName)) ∈ lw_all := lw_g (lw_at lw_m8 220 rfl) rfl
theorem q2031 : (Jvm.Cond.code ({ cls := "NandHouseModel", name := "live", desc := "()I" } : Jvm.MethodName) prog_12_method_16_code (3 : Nat) (Option.some Jvm.ClassFile.FieldType.int)) ∈ lw_all := lw_g (lw_at lw_m8 221 rfl) rfl
theorem q2032 : (Jvm.Cond.methodLink "NandHouseModel" (154 : Nat) ({ cls := "NandHouseModel", name := "eights", desc := "(I)I" } : Jvm.MethodName)) ∈ lw_all := lw_g (lw_at lw_m8 222 rfl) rfl
theorem q2033 : (Jvm.Cond.static ({ cls := "NandHouseModel", name := "eights", desc := "(I)I" } : Jvm.MethodName)) ∈ lw_all := lw_g (lw_at lw_m8 223 rfl) rfl
theorem q2034 : (Jvm.Cond.code ({ cls := "NandHouseModel", name := "eights", desc := "(I)I" } : Jvm.MethodName) prog_12_method_15_code (1 : Nat) (Option.some Jvm.ClassFile.FieldType.int)) ∈ lw_all := lw_g (lw_at lw_m8 224 rfl) rfl
theorem q2035 : (Jvm.Cond.methodLink "NandHouseModel" (223 : Nat) ({ cls := "NandHouseModel", name := "group", desc := "(III)I" } : Jvm.MethodName)) ∈ lw_all := lw_g (lw_at lw_m8 225 rfl) rfl
theorem q2036 : (Jvm.Cond.privateMethod ({ cls := "NandHouseModel", name := "group", desc := "(III)I" } : Jvm.MethodName)) ∈ lw_tbl := lw_at lw_m8 226 rfl
theorem q2037 : (Jvm.Cond.instanceMethod ({ cls := "NandHouseModel", name := "group", desc := "(III)I" } : Jvm.MethodName)) ∈ lw_all := lw_g (lw_at lw_m8 227 rfl) rfl
theorem q2038 : (Jvm.Cond.code ({ cls := "NandHouseModel", name := "group", desc := "(III)I" } : Jvm.MethodName) prog_12_method_23_code (4 : Nat) (Option.some Jvm.ClassFile.FieldType.int)) ∈ lw_all := lw_g (lw_at lw_m8 228 rfl) rfl
theorem q2039 : (Jvm.Cond.methodLink "NandHouseModel" (226 : Nat) ({ cls := "NandHouseModel", name := "hand", desc := "(I)V" } : Jvm.MethodName)) ∈ lw_all := lw_g (lw_at lw_m8 229 rfl) rfl
theorem q2040 : (Jvm.Cond.privateMethod ({ cls := "NandHouseModel", name := "hand", desc := "(I)V" } : Jvm.MethodName)) ∈ lw_tbl := lw_at lw_m8 230 rfl
theorem q2041 : (Jvm.Cond.instanceMethod ({ cls := "NandHouseModel", name := "hand", desc := "(I)V" } : Jvm.MethodName)) ∈ lw_all := lw_g (lw_at lw_m8 231 rfl) rfl
theorem q2042 : (Jvm.Cond.code ({ cls := "NandHouseModel", name := "hand", desc := "(I)V" } : Jvm.MethodName) prog_12_method_25_code (5 : Nat) (Option.none : Option Jvm.ClassFile.FieldType)) ∈ lw_all := lw_g (lw_at lw_m8 232 rfl) rfl
theorem q2043 : (Jvm.Cond.methodLink "NandHouseModel" (198 : Nat) ({ cls := "NandHouseModel", name := "does", desc := "(II)V" } : Jvm.MethodName)) ∈ lw_all := lw_g (lw_at lw_m8 233 rfl) rfl
theorem q2044 : (Jvm.Cond.privateMethod ({ cls := "NandHouseModel", name := "does", desc := "(II)V" } : Jvm.MethodName)) ∈ lw_tbl := lw_at lw_m8 234 rfl
theorem q2045 : (Jvm.Cond.instanceMethod ({ cls := "NandHouseModel", name := "does", desc := "(II)V" } : Jvm.MethodName)) ∈ lw_all := lw_g (lw_at lw_m8 235 rfl) rfl
theorem q2046 : (Jvm.Cond.code ({ cls := "NandHouseModel", name := "does", desc := "(II)V" } : Jvm.MethodName) prog_12_method_22_code (5 : Nat) (Option.none : Option Jvm.ClassFile.FieldType)) ∈ lw_all := lw_g (lw_at lw_m8 236 rfl) rfl
theorem q2047 : (Jvm.Cond.methodLink "NandHouseModel" (175 : Nat) ({ cls := "NandHouseModel", name := "addEntry", desc := "(IIJI)V" } : Jvm.MethodName)) ∈ lw_all := lw_g (lw_at lw_m8 237 rfl) rfl
theorem q2048 : (Jvm.Cond.privateMethod ({ cls := "NandHouseModel", name := "addEntry", desc := "(IIJI)V" } : Jvm.MethodName)) ∈ lw_tbl := lw_at lw_m8 238 rfl
theorem q2049 : (Jvm.Cond.instanceMethod ({ cls := "NandHouseModel", name := "addEntry", desc := "(IIJI)V" } : Jvm.MethodName)) ∈ lw_all := lw_g (lw_at lw_m8 239 rfl) rfl
theorem q2050 : (Jvm.Cond.code ({ cls := "NandHouseModel", name := "addEntry", desc := "(IIJI)V" } : Jvm.MethodName) prog_12_method_10_code (7 : Nat) (Option.none : Option Jvm.ClassFile.FieldType)) ∈ lw_all := lw_g (lw_at lw_m9 0 rfl) rfl
theorem q2051 : (Jvm.Cond.methodLink "NandHouseModel" (179 : Nat) ({ cls := "NandHouseModel", name := "setPiece", desc := "(IIIIII)V" } : Jvm.MethodName)) ∈ lw_all := lw_g (lw_at lw_m9 1 rfl) rfl
theorem q2052 : (Jvm.Cond.privateMethod ({ cls := "NandHouseModel", name := "setPiece", desc := "(IIIIII)V" } : Jvm.MethodName)) ∈ lw_tbl := lw_at lw_m9 2 rfl
theorem q2053 : (Jvm.Cond.instanceMethod ({ cls := "NandHouseModel", name := "setPiece", desc := "(IIIIII)V" } : Jvm.MethodName)) ∈ lw_all := lw_g (lw_at lw_m9 3 rfl) rfl
theorem q2054 : (Jvm.Cond.code ({ cls := "NandHouseModel", name := "setPiece", desc := "(IIIIII)V" } : Jvm.MethodName) prog_12_method_17_code (9 : Nat) (Option.none : Option Jvm.ClassFile.FieldType)) ∈ lw_all := lw_g (lw_at lw_m9 4 rfl) rfl
theorem q2055 : (Jvm.Cond.methodLink "NandHouseModel" (158 : Nat) ({ cls := "NandHouseModel", name := "pieceOf", desc := "(III)I" } : Jvm.MethodName)) ∈ lw_all := lw_g (lw_at lw_m9 5 rfl) rfl
theorem q2056 : (Jvm.Cond.privateMethod ({ cls := "NandHouseModel", name := "pieceOf", desc := "(III)I" } : Jvm.MethodName)) ∈ lw_tbl := lw_at lw_m9 6 rfl
theorem q2057 : (Jvm.Cond.instanceMethod ({ cls := "NandHouseModel", name := "pieceOf", desc := "(III)I" } : Jvm.MethodName)) ∈ lw_all := lw_g (lw_at lw_m9 7 rfl) rfl
theorem q2058 : (Jvm.Cond.code ({ cls := "NandHouseModel", name := "pieceOf", desc := "(III)I" } : Jvm.MethodName) prog_12_method_14_code (6 : Nat) (Option.some Jvm.ClassFile.FieldType.int)) ∈ lw_all := lw_g (lw_at lw_m9 8 rfl) rfl
theorem q2059 : (Jvm.Cond.methodLink "NandHouseModel" (166 : Nat) ({ cls := "NandHouseModel", name := "dropEntry", desc := "(II)V" } : Jvm.MethodName)) ∈ lw_all := lw_g (lw_at lw_m9 9 rfl) rfl
theorem q2060 : (Jvm.Cond.privateMethod ({ cls := "NandHouseModel", name := "dropEntry", desc := "(II)V" } : Jvm.MethodName)) ∈ lw_tbl := lw_at lw_m9 10 rfl
theorem q2061 : (Jvm.Cond.instanceMethod ({ cls := "NandHouseModel", name := "dropEntry", desc := "(II)V" } : Jvm.MethodName)) ∈ lw_all := lw_g (lw_at lw_m9 11 rfl) rfl
theorem q2062 : (Jvm.Cond.code ({ cls := "NandHouseModel", name := "dropEntry", desc := "(II)V" } : Jvm.MethodName) prog_12_method_11_code (4 : Nat) (Option.none : Option Jvm.ClassFile.FieldType)) ∈ lw_all := lw_g (lw_at lw_m9 12 rfl) rfl
theorem q2063 : (Jvm.Cond.methodLink "NandHouseModel" (169 : Nat) ({ cls := "NandHouseModel", name := "dropNode", desc := "(II)V" } : Jvm.MethodName)) ∈ lw_all := lw_g (lw_at lw_m9 13 rfl) rfl
theorem q2064 : (Jvm.Cond.privateMethod ({ cls := "NandHouseModel", name := "dropNode", desc := "(II)V" } : Jvm.MethodName)) ∈ lw_tbl := lw_at lw_m9 14 rfl
theorem q2065 : (Jvm.Cond.instanceMethod ({ cls := "NandHouseModel", name := "dropNode", desc := "(II)V" } : Jvm.MethodName)) ∈ lw_all := lw_g (lw_at lw_m9 15 rfl) rfl
theorem q2066 : (Jvm.Cond.code ({ cls := "NandHouseModel", name := "dropNode", desc := "(II)V" } : Jvm.MethodName) prog_12_method_6_code (6 : Nat) (Option.none : Option Jvm.ClassFile.FieldType)) ∈ lw_all := lw_g (lw_at lw_m9 16 rfl) rfl
theorem q2067 : (Jvm.Cond.methodLink "NandHouseModel" (147 : Nat) ({ cls := "NandHouseModel", name := "dropPieces", desc := "(III)V" } : Jvm.MethodName)) ∈ lw_all := lw_g (lw_at lw_m9 17 rfl) rfl
theorem q2068 : (Jvm.Cond.privateMethod ({ cls := "NandHouseModel", name := "dropPieces", desc := "(III)V" } : Jvm.MethodName)) ∈ lw_tbl := lw_at lw_m9 18 rfl
theorem q2069 : (Jvm.Cond.instanceMethod ({ cls := "NandHouseModel", name := "dropPieces", desc := "(III)V" } : Jvm.MethodName)) ∈ lw_all := lw_g (lw_at lw_m9 19 rfl) rfl
theorem q2070 : (Jvm.Cond.code ({ cls := "NandHouseModel", name := "dropPieces", desc := "(III)V" } : Jvm.MethodName) prog_12_method_5_code (7 : Nat) (Option.none : Option Jvm.ClassFile.FieldType)) ∈ lw_all := lw_g (lw_at lw_m9 20 rfl) rfl
theorem q2071 : (Jvm.Cond.methodLink "NandHouseModel" (151 : Nat) ({ cls := "NandHouseModel", name := "dropAttribute", desc := "(II)V" } : Jvm.MethodName)) ∈ lw_all := lw_g (lw_at lw_m9 21 rfl) rfl
theorem q2072 : (Jvm.Cond.privateMethod ({ cls := "NandHouseModel", name := "dropAttribute", desc := "(II)V" } : Jvm.MethodName)) ∈ lw_tbl := lw_at lw_m9 22 rfl
theorem q2073 : (Jvm.Cond.instanceMethod ({ cls := "NandHouseModel", name := "dropAttribute", desc := "(II)V" } : Jvm.MethodName)) ∈ lw_all := lw_g (lw_at lw_m9 23 rfl) rfl
theorem q2074 : (Jvm.Cond.code ({ cls := "NandHouseModel", name := "dropAttribute", desc := "(II)V" } : Jvm.MethodName) prog_12_method_7_code (4 : Nat) (Option.none : Option Jvm.ClassFile.FieldType)) ∈ lw_all := lw_g (lw_at lw_m9 24 rfl) rfl
theorem q2075 : (Jvm.Cond.methodLink "NandHouseModel" (183 : Nat) ({ cls := "NandHouseModel", name := "moveEntry", desc := "(II)V" } : Jvm.MethodName)) ∈ lw_all := lw_g (lw_at lw_m9 25 rfl) rfl
theorem q2076 : (Jvm.Cond.privateMethod ({ cls := "NandHouseModel", name := "moveEntry", desc := "(II)V" } : Jvm.MethodName)) ∈ lw_tbl := lw_at lw_m9 26 rfl
theorem q2077 : (Jvm.Cond.instanceMethod ({ cls := "NandHouseModel", name := "moveEntry", desc := "(II)V" } : Jvm.MethodName)) ∈ lw_all := lw_g (lw_at lw_m9 27 rfl) rfl
theorem q2078 : (Jvm.Cond.code ({ cls := "NandHouseModel", name := "moveEntry", desc := "(II)V" } : Jvm.MethodName) prog_12_method_19_code (5 : Nat) (Option.none : Option Jvm.ClassFile.FieldType)) ∈ lw_all := lw_g (lw_at lw_m9 28 rfl) rfl
theorem q2079 : (Jvm.Cond.methodLink "NandHouseModel" (186 : Nat) ({ cls := "NandHouseModel", name := "cutTo", desc := "(III)V" } : Jvm.MethodName)) ∈ lw_all := lw_g (lw_at lw_m9 29 rfl) rfl
theorem q2080 : (Jvm.Cond.privateMethod ({ cls := "NandHouseModel", name := "cutTo", desc := "(III)V" } : Jvm.MethodName)) ∈ lw_tbl := lw_at lw_m9 30 rfl
theorem q2081 : (Jvm.Cond.instanceMethod ({ cls := "NandHouseModel", name := "cutTo", desc := "(III)V" } : Jvm.MethodName)) ∈ lw_all := lw_g (lw_at lw_m9 31 rfl) rfl
theorem q2082 : (Jvm.Cond.code ({ cls := "NandHouseModel", name := "cutTo", desc := "(III)V" } : Jvm.MethodName) prog_12_method_18_code (7 : Nat) (Option.none : Option Jvm.ClassFile.FieldType)) ∈ lw_all := lw_g (lw_at lw_m9 32 rfl) rfl
theorem q2083 : (Jvm.Cond.methodLink "NandHouseModel" (189 : Nat) ({ cls := "NandHouseModel", name := "swapEntries", desc := "(II)V" } : Jvm.MethodName)) ∈ lw_all := lw_g (lw_at lw_m9 33 rfl) rfl
theorem q2084 : (Jvm.Cond.privateMethod ({ cls := "NandHouseModel", name := "swapEntries", desc := "(II)V" } : Jvm.MethodName)) ∈ lw_tbl := lw_at lw_m9 34 rfl
theorem q2085 : (Jvm.Cond.instanceMethod ({ cls := "NandHouseModel", name := "swapEntries", desc := "(II)V" } : Jvm.MethodName)) ∈ lw_all := lw_g (lw_at lw_m9 35 rfl) rfl
theorem q2086 : (Jvm.Cond.code ({ cls := "NandHouseModel", name := "swapEntries", desc := "(II)V" } : Jvm.MethodName) prog_12_method_20_code (6 : Nat) (Option.none : Option Jvm.ClassFile.FieldType)) ∈ lw_all := lw_g (lw_at lw_m9 36 rfl) rfl
theorem q2087 : (Jvm.Cond.methodLink "NandHouseModel" (192 : Nat) ({ cls := "NandHouseModel", name := "setAttribute", desc := "(II)V" } : Jvm.MethodName)) ∈ lw_all := lw_g (lw_at lw_m9 37 rfl) rfl
theorem q2088 : (Jvm.Cond.privateMethod ({ cls := "NandHouseModel", name := "setAttribute", desc := "(II)V" } : Jvm.MethodName)) ∈ lw_tbl := lw_at lw_m9 38 rfl
theorem q2089 : (Jvm.Cond.instanceMethod ({ cls := "NandHouseModel", name := "setAttribute", desc := "(II)V" } : Jvm.MethodName)) ∈ lw_all := lw_g (lw_at lw_m9 39 rfl) rfl
theorem q2090 : (Jvm.Cond.code ({ cls := "NandHouseModel", name := "setAttribute", desc := "(II)V" } : Jvm.MethodName) prog_12_method_21_code (4 : Nat) (Option.none : Option Jvm.ClassFile.FieldType)) ∈ lw_all := lw_g (lw_at lw_m9 40 rfl) rfl
theorem q2091 : (Jvm.Cond.methodLink "NandHouseModel" (172 : Nat) ({ cls := "NandHouseModel", name := "attributeOf", desc := "(IIJ)I" } : Jvm.MethodName)) ∈ lw_all := lw_g (lw_at lw_m9 41 rfl) rfl
theorem q2092 : (Jvm.Cond.privateMethod ({ cls := "NandHouseModel", name := "attributeOf", desc := "(IIJ)I" } : Jvm.MethodName)) ∈ lw_tbl := lw_at lw_m9 42 rfl
theorem q2093 : (Jvm.Cond.instanceMethod ({ cls := "NandHouseModel", name := "attributeOf", desc := "(IIJ)I" } : Jvm.MethodName)) ∈ lw_all := lw_g (lw_at lw_m9 43 rfl) rfl
theorem q2094 : (Jvm.Cond.code ({ cls := "NandHouseModel", name := "attributeOf", desc := "(IIJ)I" } : Jvm.MethodName) prog_12_method_8_code (7 : Nat) (Option.some Jvm.ClassFile.FieldType.int)) ∈ lw_all := lw_g (lw_at lw_m9 44 rfl) rfl
theorem q2095 : (Jvm.Cond.methodLink "NandHouseModel" (201 : Nat) ({ cls := "NandHouseModel", name := "becomesSafe", desc := "(I)V" } : Jvm.MethodName)) ∈ lw_all := lw_g (lw_at lw_m9 45 rfl) rfl
theorem q2096 : (Jvm.Cond.privateMethod ({ cls := "NandHouseModel", name := "becomesSafe", desc := "(I)V" } : Jvm.MethodName)) ∈ lw_tbl := lw_at lw_m9 46 rfl
theorem q2097 : (Jvm.Cond.instanceMethod ({ cls := "NandHouseModel", name := "becomesSafe", desc := "(I)V" } : Jvm.MethodName)) ∈ lw_all := lw_g (lw_at lw_m9 47 rfl) rfl
theorem q2098 : (Jvm.Cond.code ({ cls := "NandHouseModel", name := "becomesSafe", desc := "(I)V" } : Jvm.MethodName) prog_12_method_24_code (5 : Nat) (Option.none : Option Jvm.ClassFile.FieldType)) ∈ lw_all := lw_g (lw_at lw_m9 48 rfl) rfl
theorem q2100 : (Jvm.Cond.instanceMethod ({ cls := "NandHouseModel", name := "mkdir", desc := "(IJ)I" } : Jvm.MethodName)) ∈ lw_all := lw_g (lw_at lw_m9 50 rfl) rfl
theorem q2101 : (Jvm.Cond.selects "NandHouseModel" ({ cls := "NandHouseModel", name := "mkdir", desc := "(IJ)I" } : Jvm.MethodName) ({ cls := "NandHouseModel", name := "mkdir", desc := "(IJ)I" } : Jvm.MethodName)) ∈ lw_all := lw_g (lw_at lw_m9 51 rfl) rfl
theorem q2102 : (Jvm.Cond.code ({ cls := "NandHouseModel", name := "mkdir", desc := "(IJ)I" } : Jvm.MethodName) prog_12_method_32_code (4 : Nat) (Option.some Jvm.ClassFile.FieldType.int)) ∈ lw_all := lw_g (lw_at lw_m9 52 rfl) rfl
theorem q2104 : (Jvm.Cond.instanceMethod ({ cls := "NandHouseModel", name := "sign", desc := "(IJ)I" } : Jvm.MethodName)) ∈ lw_all := lw_g (lw_at lw_m9 54 rfl) rfl
theorem q2105 : (Jvm.Cond.selects "NandHouseModel" ({ cls := "NandHouseModel", name := "sign", desc := "(IJ)I" } : Jvm.MethodName) ({ cls := "NandHouseModel", name := "sign", desc := "(IJ)I" } : Jvm.MethodName)) ∈ lw_all := lw_g (lw_at lw_m9 55 rfl) rfl
theorem q2106 : (Jvm.Cond.code ({ cls := "NandHouseModel", name := "sign", desc := "(IJ)I" } : Jvm.MethodName) prog_12_method_33_code (4 : Nat) (Option.some Jvm.ClassFile.FieldType.int)) ∈ lw_all := lw_g (lw_at lw_m9 56 rfl) rfl
theorem q2108 : (Jvm.Cond.instanceMethod ({ cls := "NandHouseModel", name := "link", desc := "(IIJ)I" } : Jvm.MethodName)) ∈ lw_all := lw_g (lw_at lw_m9 58 rfl) rfl
theorem q2109 : (Jvm.Cond.selects "NandHouseModel" ({ cls := "NandHouseModel", name := "link", desc := "(IIJ)I" } : Jvm.MethodName) ({ cls := "NandHouseModel", name := "link", desc := "(IIJ)I" } : Jvm.MethodName)) ∈ lw_all := lw_g (lw_at lw_m9 59 rfl) rfl
theorem q2110 : (Jvm.Cond.code ({ cls := "NandHouseModel", name := "link", desc := "(IIJ)I" } : Jvm.MethodName) prog_12_method_34_code (8 : Nat) (Option.some Jvm.ClassFile.FieldType.int)) ∈ lw_all := lw_g (lw_at lw_m9 60 rfl) rfl
theorem q2111 : (Jvm.Cond.methodLink "NandHouseModel" (233 : Nat) ({ cls := "NandHouseModel", name := "links", desc := "(II)I" } : Jvm.MethodName)) ∈ lw_all := lw_g (lw_at lw_m9 61 rfl) rfl
theorem q2112 : (Jvm.Cond.privateMethod ({ cls := "NandHouseModel", name := "links", desc := "(II)I" } : Jvm.MethodName)) ∈ lw_tbl := lw_at lw_m9 62 rfl
theorem q2113 : (Jvm.Cond.instanceMethod ({ cls := "NandHouseModel", name := "links", desc := "(II)I" } : Jvm.MethodName)) ∈ lw_all := lw_g (lw_at lw_m9 63 rfl) rfl
theorem q2114 : (Jvm.Cond.code ({ cls := "NandHouseModel", name := "links", desc := "(II)I" } : Jvm.MethodName) prog_12_method_12_code (5 : Nat) (Option.some Jvm.ClassFile.FieldType.int)) ∈ lw_all := lw_g (lw_at lw_m9 64 rfl) rfl
theorem q2116 : (Jvm.Cond.instanceMethod ({ cls := "NandHouseModel", name := "unlink", desc := "(IJ)I" } : Jvm.MethodName)) ∈ lw_all := lw_g (lw_at lw_m9 66 rfl) rfl
theorem q2117 : (Jvm.Cond.selects "NandHouseModel" ({ cls := "NandHouseModel", name := "unlink", desc := "(IJ)I" } : Jvm.MethodName) ({ cls := "NandHouseModel", name := "unlink", desc := "(IJ)I" } : Jvm.MethodName)) ∈ lw_all := lw_g (lw_at lw_m9 67 rfl) rfl
theorem q2118 : (Jvm.Cond.code ({ cls := "NandHouseModel", name := "unlink", desc := "(IJ)I" } : Jvm.MethodName) prog_12_method_36_code (9 : Nat) (Option.some Jvm.ClassFile.FieldType.int)) ∈ lw_all := lw_g (lw_at lw_m9 68 rfl) rfl
theorem q2119 : (Jvm.Cond.methodLink "NandHouseModel" (236 : Nat) ({ cls := "NandHouseModel", name := "isOpen", desc := "(I)Z" } : Jvm.MethodName)) ∈ lw_all := lw_g (lw_at lw_m9 69 rfl) rfl
theorem q2120 : (Jvm.Cond.privateMethod ({ cls := "NandHouseModel", name := "isOpen", desc := "(I)Z" } : Jvm.MethodName)) ∈ lw_tbl := lw_at lw_m9 70 rfl
theorem q2121 : (Jvm.Cond.instanceMethod ({ cls := "NandHouseModel", name := "isOpen", desc := "(I)Z" } : Jvm.MethodName)) ∈ lw_all := lw_g (lw_at lw_m9 71 rfl) rfl
theorem q2122 : (Jvm.Cond.code ({ cls := "NandHouseModel", name := "isOpen", desc := "(I)Z" } : Jvm.MethodName) prog_12_method_35_code (4 : Nat) (Option.some Jvm.ClassFile.FieldType.boolean)) ∈ lw_all := lw_g (lw_at lw_m9 72 rfl) rfl
theorem q2124 : (Jvm.Cond.instanceMethod ({ cls := "NandHouseModel", name := "rmdir", desc := "(IJ)I" } : Jvm.MethodName)) ∈ lw_all := lw_g (lw_at lw_m9 74 rfl) rfl
theorem q2125 : (Jvm.Cond.selects "NandHouseModel" ({ cls := "NandHouseModel", name := "rmdir", desc := "(IJ)I" } : Jvm.MethodName) ({ cls := "NandHouseModel", name := "rmdir", desc := "(IJ)I" } : Jvm.MethodName)) ∈ lw_all := lw_g (lw_at lw_m9 75 rfl) rfl
theorem q2126 : (Jvm.Cond.code ({ cls := "NandHouseModel", name := "rmdir", desc := "(IJ)I" } : Jvm.MethodName) prog_12_method_37_code (8 : Nat) (Option.some Jvm.ClassFile.FieldType.int)) ∈ lw_all := lw_g (lw_at lw_m9 76 rfl) rfl
theorem q2127 : (Jvm.Cond.methodLink "NandHouseModel" (240 : Nat) ({ cls := "NandHouseModel", name := "filled", desc := "(II)I" } : Jvm.MethodName)) ∈ lw_all := lw_g (lw_at lw_m9 77 rfl) rfl
theorem q2128 : (Jvm.Cond.privateMethod ({ cls := "NandHouseModel", name := "filled", desc := "(II)I" } : Jvm.MethodName)) ∈ lw_tbl := lw_at lw_m9 78 rfl
theorem q2129 : (Jvm.Cond.instanceMethod ({ cls := "NandHouseModel", name := "filled", desc := "(II)I" } : Jvm.MethodName)) ∈ lw_all := lw_g (lw_at lw_m9 79 rfl) rfl
theorem q2130 : (Jvm.Cond.code ({ cls := "NandHouseModel", name := "filled", desc := "(II)I" } : Jvm.MethodName) prog_12_method_13_code (5 : Nat) (Option.some Jvm.ClassFile.FieldType.int)) ∈ lw_all := lw_g (lw_at lw_m9 80 rfl) rfl
theorem q2132 : (Jvm.Cond.instanceMethod ({ cls := "NandHouseModel", name := "rename", desc := "(IJIJ)I" } : Jvm.MethodName)) ∈ lw_all := lw_g (lw_at lw_m9 82 rfl) rfl
theorem q2133 : (Jvm.Cond.selects "NandHouseModel" ({ cls := "NandHouseModel", name := "rename", desc := "(IJIJ)I" } : Jvm.MethodName) ({ cls := "NandHouseModel", name := "rename", desc := "(IJIJ)I" } : Jvm.MethodName)) ∈ lw_all := lw_g (lw_at lw_m9 83 rfl) rfl
theorem q2134 : (Jvm.Cond.code ({ cls := "NandHouseModel", name := "rename", desc := "(IJIJ)I" } : Jvm.MethodName) prog_12_method_39_code (14 : Nat) (Option.some Jvm.ClassFile.FieldType.int)) ∈ lw_all := lw_g (lw_at lw_m9 84 rfl) rfl
theorem q2135 : (Jvm.Cond.methodLink "NandHouseModel" (243 : Nat) ({ cls := "NandHouseModel", name := "isIn", desc := "(II)Z" } : Jvm.MethodName)) ∈ lw_all := lw_g (lw_at lw_m9 85 rfl) rfl
theorem q2136 : (Jvm.Cond.privateMethod ({ cls := "NandHouseModel", name := "isIn", desc := "(II)Z" } : Jvm.MethodName)) ∈ lw_tbl := lw_at lw_m9 86 rfl
theorem q2137 : (Jvm.Cond.instanceMethod ({ cls := "NandHouseModel", name := "isIn", desc := "(II)Z" } : Jvm.MethodName)) ∈ lw_all := lw_g (lw_at lw_m9 87 rfl) rfl
theorem q2138 : (Jvm.Cond.code ({ cls := "NandHouseModel", name := "isIn", desc := "(II)Z" } : Jvm.MethodName) prog_12_method_38_code (6 : Nat) (Option.some Jvm.ClassFile.FieldType.boolean)) ∈ lw_all := lw_g (lw_at lw_m9 88 rfl) rfl
theorem q2140 : (Jvm.Cond.instanceMethod ({ cls := "NandHouseModel", name := "swap", desc := "(IJIJ)I" } : Jvm.MethodName)) ∈ lw_all := lw_g (lw_at lw_m9 90 rfl) rfl
theorem q2141 : (Jvm.Cond.selects "NandHouseModel" ({ cls := "NandHouseModel", name := "swap", desc := "(IJIJ)I" } : Jvm.MethodName) ({ cls := "NandHouseModel", name := "swap", desc := "(IJIJ)I" } : Jvm.MethodName)) ∈ lw_all := lw_g (lw_at lw_m9 91 rfl) rfl
theorem q2142 : (Jvm.Cond.code ({ cls := "NandHouseModel", name := "swap", desc := "(IJIJ)I" } : Jvm.MethodName) prog_12_method_40_code (14 : Nat) (Option.some Jvm.ClassFile.FieldType.int)) ∈ lw_all := lw_g (lw_at lw_m9 92 rfl) rfl
theorem q2144 : (Jvm.Cond.instanceMethod ({ cls := "NandHouseModel", name := "look", desc := "(IJ)I" } : Jvm.MethodName)) ∈ lw_all := lw_g (lw_at lw_m9 94 rfl) rfl
theorem q2145 : (Jvm.Cond.selects "NandHouseModel" ({ cls := "NandHouseModel", name := "look", desc := "(IJ)I" } : Jvm.MethodName) ({ cls := "NandHouseModel", name := "look", desc := "(IJ)I" } : Jvm.MethodName)) ∈ lw_all := lw_g (lw_at lw_m9 95 rfl) rfl
theorem q2146 : (Jvm.Cond.code ({ cls := "NandHouseModel", name := "look", desc := "(IJ)I" } : Jvm.MethodName) prog_12_method_41_code (6 : Nat) (Option.some Jvm.ClassFile.FieldType.int)) ∈ lw_all := lw_g (lw_at lw_m9 96 rfl) rfl
theorem q2148 : (Jvm.Cond.instanceMethod ({ cls := "NandHouseModel", name := "list", desc := "(II)J" } : Jvm.MethodName)) ∈ lw_all := lw_g (lw_at lw_m9 98 rfl) rfl
theorem q2149 : (Jvm.Cond.selects "NandHouseModel" ({ cls := "NandHouseModel", name := "list", desc := "(II)J" } : Jvm.MethodName) ({ cls := "NandHouseModel", name := "list", desc := "(II)J" } : Jvm.MethodName)) ∈ lw_all := lw_g (lw_at lw_m9 99 rfl) rfl
theorem q2150 : (Jvm.Cond.code ({ cls := "NandHouseModel", name := "list", desc := "(II)J" } : Jvm.MethodName) prog_12_method_42_code (8 : Nat) (Option.some Jvm.ClassFile.FieldType.long)) ∈ lw_all := lw_g (lw_at lw_m9 100 rfl) rfl
theorem q2151 : (Jvm.Cond.methodLink "NandHouseModel" (247 : Nat) ({ cls := "NandHouseModel", name := "isBefore", desc := "(JJ)Z" } : Jvm.MethodName)) ∈ lw_all := lw_g (lw_at lw_m9 101 rfl) rfl
theorem q2152 : (Jvm.Cond.static ({ cls := "NandHouseModel", name := "isBefore", desc := "(JJ)Z" } : Jvm.MethodName)) ∈ lw_all := lw_g (lw_at lw_m9 102 rfl) rfl
theorem q2153 : (Jvm.Cond.code ({ cls := "NandHouseModel", name := "isBefore", desc := "(JJ)Z" } : Jvm.MethodName) prog_12_method_28_code (6 : Nat) (Option.some Jvm.ClassFile.FieldType.boolean)) ∈ lw_all := lw_g (lw_at lw_m9 103 rfl) rfl
theorem q2155 : (Jvm.Cond.instanceMethod ({ cls := "NandHouseModel", name := "after", desc := "(IJ)J" } : Jvm.MethodName)) ∈ lw_all := lw_g (lw_at lw_m9 105 rfl) rfl
theorem q2156 : (Jvm.Cond.selects "NandHouseModel" ({ cls := "NandHouseModel", name := "after", desc := "(IJ)J" } : Jvm.MethodName) ({ cls := "NandHouseModel", name := "after", desc := "(IJ)J" } : Jvm.MethodName)) ∈ lw_all := lw_g (lw_at lw_m9 106 rfl) rfl
theorem q2157 : (Jvm.Cond.code ({ cls := "NandHouseModel", name := "after", desc := "(IJ)J" } : Jvm.MethodName) prog_12_method_43_code (8 : Nat) (Option.some Jvm.ClassFile.FieldType.long)) ∈ lw_all := lw_g (lw_at lw_m9 107 rfl) rfl
theorem q2159 : (Jvm.Cond.instanceMethod ({ cls := "NandHouseModel", name := "feed", desc := "(JI)I" } : Jvm.MethodName)) ∈ lw_all := lw_g (lw_at lw_m9 109 rfl) rfl
theorem q2160 : (Jvm.Cond.selects "NandHouseModel" ({ cls := "NandHouseModel", name := "feed", desc := "(JI)I" } : Jvm.MethodName) ({ cls := "NandHouseModel", name := "feed", desc := "(JI)I" } : Jvm.MethodName)) ∈ lw_all := lw_g (lw_at lw_m9 110 rfl) rfl
theorem q2161 : (Jvm.Cond.code ({ cls := "NandHouseModel", name := "feed", desc := "(JI)I" } : Jvm.MethodName) prog_12_method_44_code (6 : Nat) (Option.some Jvm.ClassFile.FieldType.int)) ∈ lw_all := lw_g (lw_at lw_m9 111 rfl) rfl
theorem q2163 : (Jvm.Cond.instanceMethod ({ cls := "NandHouseModel", name := "taped", desc := "(I)I" } : Jvm.MethodName)) ∈ lw_all := lw_g (lw_at lw_m9 113 rfl) rfl
theorem q2164 : (Jvm.Cond.selects "NandHouseModel" ({ cls := "NandHouseModel", name := "taped", desc := "(I)I" } : Jvm.MethodName) ({ cls := "NandHouseModel", name := "taped", desc := "(I)I" } : Jvm.MethodName)) ∈ lw_all := lw_g (lw_at lw_m9 114 rfl) rfl
theorem q2165 : (Jvm.Cond.code ({ cls := "NandHouseModel", name := "taped", desc := "(I)I" } : Jvm.MethodName) prog_12_method_45_code (2 : Nat) (Option.some Jvm.ClassFile.FieldType.int)) ∈ lw_all := lw_g (lw_at lw_m9 115 rfl) rfl
theorem q2167 : (Jvm.Cond.instanceMethod ({ cls := "NandHouseModel", name := "walk", desc := "(IZ)I" } : Jvm.MethodName)) ∈ lw_all := lw_g (lw_at lw_m9 117 rfl) rfl
theorem q2168 : (Jvm.Cond.selects "NandHouseModel" ({ cls := "NandHouseModel", name := "walk", desc := "(IZ)I" } : Jvm.MethodName) ({ cls := "NandHouseModel", name := "walk", desc := "(IZ)I" } : Jvm.MethodName)) ∈ lw_all := lw_g (lw_at lw_m9 118 rfl) rfl
theorem q2169 : (Jvm.Cond.code ({ cls := "NandHouseModel", name := "walk", desc := "(IZ)I" } : Jvm.MethodName) prog_12_method_50_code (4 : Nat) (Option.some Jvm.ClassFile.FieldType.int)) ∈ lw_all := lw_g (lw_at lw_m9 119 rfl) rfl
theorem q2170 : (Jvm.Cond.methodLink "NandHouseModel" (266 : Nat) ({ cls := "NandHouseModel", name := "isMore", desc := "()Z" } : Jvm.MethodName)) ∈ lw_all := lw_g (lw_at lw_m9 120 rfl) rfl
theorem q2171 : (Jvm.Cond.privateMethod ({ cls := "NandHouseModel", name := "isMore", desc := "()Z" } : Jvm.MethodName)) ∈ lw_tbl := lw_at lw_m9 121 rfl
theorem q2172 : (Jvm.Cond.instanceMethod ({ cls := "NandHouseModel", name := "isMore", desc := "()Z" } : Jvm.MethodName)) ∈ lw_all := lw_g (lw_at lw_m9 122 rfl) rfl
theorem q2173 : (Jvm.Cond.code ({ cls := "NandHouseModel", name := "isMore", desc := "()Z" } : Jvm.MethodName) prog_12_method_47_code (4 : Nat) (Option.some Jvm.ClassFile.FieldType.boolean)) ∈ lw_all := lw_g (lw_at lw_m9 123 rfl) rfl
theorem q2174 : (Jvm.Cond.methodLink "NandHouseModel" (257 : Nat) ({ cls := "NandHouseModel", name := "step", desc := "(II)I" } : Jvm.MethodName)) ∈ lw_all := lw_g (lw_at lw_m9 124 rfl) rfl
theorem q2175 : (Jvm.Cond.privateMethod ({ cls := "NandHouseModel", name := "step", desc := "(II)I" } : Jvm.MethodName)) ∈ lw_tbl := lw_at lw_m9 125 rfl
theorem q2176 : (Jvm.Cond.instanceMethod ({ cls := "NandHouseModel", name := "step", desc := "(II)I" } : Jvm.MethodName)) ∈ lw_all := lw_g (lw_at lw_m9 126 rfl) rfl
theorem q2177 : (Jvm.Cond.code ({ cls := "NandHouseModel", name := "step", desc := "(II)I" } : Jvm.MethodName) prog_12_method_46_code (4 : Nat) (Option.some Jvm.ClassFile.FieldType.int)) ∈ lw_all := lw_g (lw_at lw_m9 127 rfl) rfl
theorem q2178 : (Jvm.Cond.methodLink "NandHouseModel" (251 : Nat) ({ cls := "NandHouseModel", name := "byteOf", desc := "(II)I" } : Jvm.MethodName)) ∈ lw_all := lw_g (lw_at lw_m9 128 rfl) rfl
theorem q2179 : (Jvm.Cond.privateMethod ({ cls := "NandHouseModel", name := "byteOf", desc := "(II)I" } : Jvm.MethodName)) ∈ lw_tbl := lw_at lw_m9 129 rfl
theorem q2180 : (Jvm.Cond.instanceMethod ({ cls := "NandHouseModel", name := "byteOf", desc := "(II)I" } : Jvm.MethodName)) ∈ lw_all := lw_g (lw_at lw_m9 130 rfl) rfl
theorem q2181 : (Jvm.Cond.code ({ cls := "NandHouseModel", name := "byteOf", desc := "(II)I" } : Jvm.MethodName) prog_12_method_74_code (4 : Nat) (Option.some Jvm.ClassFile.FieldType.int)) ∈ lw_all := lw_g (lw_at lw_m9 131 rfl) rfl
theorem q2182 : (Jvm.Cond.methodLink "NandHouseModel" (273 : Nat) ({ cls := "NandHouseModel", name := "goPart", desc := "(Z)I" } : Jvm.MethodName)) ∈ lw_all := lw_g (lw_at lw_m9 132 rfl) rfl
theorem q2183 : (Jvm.Cond.privateMethod ({ cls := "NandHouseModel", name := "goPart", desc := "(Z)I" } : Jvm.MethodName)) ∈ lw_tbl := lw_at lw_m9 133 rfl
theorem q2184 : (Jvm.Cond.instanceMethod ({ cls := "NandHouseModel", name := "goPart", desc := "(Z)I" } : Jvm.MethodName)) ∈ lw_all := lw_g (lw_at lw_m9 134 rfl) rfl
theorem q2185 : (Jvm.Cond.code ({ cls := "NandHouseModel", name := "goPart", desc := "(Z)I" } : Jvm.MethodName) prog_12_method_48_code (11 : Nat) (Option.some Jvm.ClassFile.FieldType.int)) ∈ lw_all := lw_g (lw_at lw_m9 135 rfl) rfl
theorem q2186 : (Jvm.Cond.methodLink "NandHouseModel" (263 : Nat) ({ cls := "NandHouseModel", name := "holderOf", desc := "(I)I" } : Jvm.MethodName)) ∈ lw_all := lw_g (lw_at lw_m9 136 rfl) rfl
theorem q2187 : (Jvm.Cond.privateMethod ({ cls := "NandHouseModel", name := "holderOf", desc := "(I)I" } : Jvm.MethodName)) ∈ lw_tbl := lw_at lw_m9 137 rfl
theorem q2188 : (Jvm.Cond.instanceMethod ({ cls := "NandHouseModel", name := "holderOf", desc := "(I)I" } : Jvm.MethodName)) ∈ lw_all := lw_g (lw_at lw_m9 138 rfl) rfl
theorem q2189 : (Jvm.Cond.code ({ cls := "NandHouseModel", name := "holderOf", desc := "(I)I" } : Jvm.MethodName) prog_12_method_49_code (4 : Nat) (Option.some Jvm.ClassFile.FieldType.int)) ∈ lw_all := lw_g (lw_at lw_m9 139 rfl) rfl
theorem q2191 : (Jvm.Cond.instanceMethod ({ cls := "NandHouseModel", name := "path", desc := "(I)I" } : Jvm.MethodName)) ∈ lw_all := lw_g (lw_at lw_m9 141 rfl) rfl
theorem q2192 : (Jvm.Cond.selects "NandHouseModel" ({ cls := "NandHouseModel", name := "path", desc := "(I)I" } : Jvm.MethodName) ({ cls := "NandHouseModel", name := "path", desc := "(I)I" } : Jvm.MethodName)) ∈ lw_all := lw_g (lw_at lw_m9 142 rfl) rfl
theorem q2193 : (Jvm.Cond.code ({ cls := "NandHouseModel", name := "path", desc := "(I)I" } : Jvm.MethodName) prog_12_method_53_code (10 : Nat) (Option.some Jvm.ClassFile.FieldType.int)) ∈ lw_all := lw_g (lw_at lw_m9 143 rfl) rfl
theorem q2194 : (Jvm.Cond.methodLink "NandHouseModel" (277 : Nat) ({ cls := "NandHouseModel", name := "nameOf", desc := "(I)J" } : Jvm.MethodName)) ∈ lw_all := lw_g (lw_at lw_m9 144 rfl) rfl
theorem q2195 : (Jvm.Cond.privateMethod ({ cls := "NandHouseModel", name := "nameOf", desc := "(I)J" } : Jvm.MethodName)) ∈ lw_tbl := lw_at lw_m9 145 rfl
theorem q2196 : (Jvm.Cond.instanceMethod ({ cls := "NandHouseModel", name := "nameOf", desc := "(I)J" } : Jvm.MethodName)) ∈ lw_all := lw_g (lw_at lw_m9 146 rfl) rfl
theorem q2197 : (Jvm.Cond.code ({ cls := "NandHouseModel", name := "nameOf", desc := "(I)J" } : Jvm.MethodName) prog_12_method_52_code (5 : Nat) (Option.some Jvm.ClassFile.FieldType.long)) ∈ lw_all := lw_g (lw_at lw_m9 147 rfl) rfl
theorem q2198 : (Jvm.Cond.methodLink "NandHouseModel" (281 : Nat) ({ cls := "NandHouseModel", name := "lengthOf", desc := "(J)I" } : Jvm.MethodName)) ∈ lw_all := lw_g (lw_at lw_m9 148 rfl) rfl
theorem q2199 : (Jvm.Cond.static ({ cls := "NandHouseModel", name := "lengthOf", desc := "(J)I" } : Jvm.MethodName)) ∈ lw_all := lw_g (lw_at lw_m9 149 rfl) rfl
theorem q2200 : (Jvm.Cond.code ({ cls := "NandHouseModel", name := "lengthOf", desc := "(J)I" } : Jvm.MethodName) prog_12_method_51_code (4 : Nat) (Option.some Jvm.ClassFile.FieldType.int)) ∈ lw_all := lw_g (lw_at lw_m9 150 rfl) rfl
theorem q2202 : (Jvm.Cond.instanceMethod ({ cls := "NandHouseModel", name := "text", desc := "(II)I" } : Jvm.MethodName)) ∈ lw_all := lw_g (lw_at lw_m9 152 rfl) rfl
theorem q2203 : (Jvm.Cond.selects "NandHouseModel" ({ cls := "NandHouseModel", name := "text", desc := "(II)I" } : Jvm.MethodName) ({ cls := "NandHouseModel", name := "text", desc := "(II)I" } : Jvm.MethodName)) ∈ lw_all := lw_g (lw_at lw_m9 153 rfl) rfl
theorem q2204 : (Jvm.Cond.code ({ cls := "NandHouseModel", name := "text", desc := "(II)I" } : Jvm.MethodName) prog_12_method_54_code (4 : Nat) (Option.some Jvm.ClassFile.FieldType.int)) ∈ lw_all := lw_g (lw_at lw_m9 154 rfl) rfl
theorem q2206 : (Jvm.Cond.instanceMethod ({ cls := "NandHouseModel", name := "kind", desc := "(I)I" } : Jvm.MethodName)) ∈ lw_all := lw_g (lw_at lw_m9 156 rfl) rfl
theorem q2207 : (Jvm.Cond.selects "NandHouseModel" ({ cls := "NandHouseModel", name := "kind", desc := "(I)I" } : Jvm.MethodName) ({ cls := "NandHouseModel", name := "kind", desc := "(I)I" } : Jvm.MethodName)) ∈ lw_all := lw_g (lw_at lw_m9 157 rfl) rfl
theorem q2208 : (Jvm.Cond.code ({ cls := "NandHouseModel", name := "kind", desc := "(I)I" } : Jvm.MethodName) prog_12_method_55_code (3 : Nat) (Option.some Jvm.ClassFile.FieldType.int)) ∈ lw_all := lw_g (lw_at lw_m9 158 rfl) rfl
theorem q2210 : (Jvm.Cond.instanceMethod ({ cls := "NandHouseModel", name := "count", desc := "(I)I" } : Jvm.MethodName)) ∈ lw_all := lw_g (lw_at lw_m9 160 rfl) rfl
theorem q2211 : (Jvm.Cond.selects "NandHouseModel" ({ cls := "NandHouseModel", name := "count", desc := "(I)I" } : Jvm.MethodName) ({ cls := "NandHouseModel", name := "count", desc := "(I)I" } : Jvm.MethodName)) ∈ lw_all := lw_g (lw_at lw_m9 161 rfl) rfl
theorem q2212 : (Jvm.Cond.code ({ cls := "NandHouseModel", name := "count", desc := "(I)I" } : Jvm.MethodName) prog_12_method_56_code (3 : Nat) (Option.some Jvm.ClassFile.FieldType.int)) ∈ lw_all := lw_g (lw_at lw_m9 162 rfl) rfl
theorem q2214 : (Jvm.Cond.instanceMethod ({ cls := "NandHouseModel", name := "size", desc := "(I)I" } : Jvm.MethodName)) ∈ lw_all := lw_g (lw_at lw_m9 164 rfl) rfl
theorem q2215 : (Jvm.Cond.selects "NandHouseModel" ({ cls := "NandHouseModel", name := "size", desc := "(I)I" } : Jvm.MethodName) ({ cls := "NandHouseModel", name := "size", desc := "(I)I" } : Jvm.MethodName)) ∈ lw_all := lw_g (lw_at lw_m9 165 rfl) rfl
theorem q2216 : (Jvm.Cond.code ({ cls := "NandHouseModel", name := "size", desc := "(I)I" } : Jvm.MethodName) prog_12_method_57_code (3 : Nat) (Option.some Jvm.ClassFile.FieldType.int)) ∈ lw_all := lw_g (lw_at lw_m9 166 rfl) rfl
theorem q2218 : (Jvm.Cond.instanceMethod ({ cls := "NandHouseModel", name := "set", desc := "(IJJ)I" } : Jvm.MethodName)) ∈ lw_all := lw_g (lw_at lw_m9 168 rfl) rfl
theorem q2219 : (Jvm.Cond.selects "NandHouseModel" ({ cls := "NandHouseModel", name := "set", desc := "(IJJ)I" } : Jvm.MethodName) ({ cls := "NandHouseModel", name := "set", desc := "(IJJ)I" } : Jvm.MethodName)) ∈ lw_all := lw_g (lw_at lw_m9 169 rfl) rfl
theorem q2220 : (Jvm.Cond.code ({ cls := "NandHouseModel", name := "set", desc := "(IJJ)I" } : Jvm.MethodName) prog_12_method_59_code (7 : Nat) (Option.some Jvm.ClassFile.FieldType.int)) ∈ lw_all := lw_g (lw_at lw_m9 170 rfl) rfl
theorem q2221 : (Jvm.Cond.methodLink "NandHouseModel" (285 : Nat) ({ cls := "NandHouseModel", name := "many", desc := "(I)I" } : Jvm.MethodName)) ∈ lw_all := lw_g (lw_at lw_m9 171 rfl) rfl
theorem q2222 : (Jvm.Cond.privateMethod ({ cls := "NandHouseModel", name := "many", desc := "(I)I" } : Jvm.MethodName)) ∈ lw_tbl := lw_at lw_m9 172 rfl
theorem q2223 : (Jvm.Cond.instanceMethod ({ cls := "NandHouseModel", name := "many", desc := "(I)I" } : Jvm.MethodName)) ∈ lw_all := lw_g (lw_at lw_m9 173 rfl) rfl
theorem q2224 : (Jvm.Cond.code ({ cls := "NandHouseModel", name := "many", desc := "(I)I" } : Jvm.MethodName) prog_12_method_58_code (4 : Nat) (Option.some Jvm.ClassFile.FieldType.int)) ∈ lw_all := lw_g (lw_at lw_m9 174 rfl) rfl
theorem q2226 : (Jvm.Cond.instanceMethod ({ cls := "NandHouseModel", name := "drop", desc := "(IJ)I" } : Jvm.MethodName)) ∈ lw_all := lw_g (lw_at lw_m9 176 rfl) rfl
theorem q2227 : (Jvm.Cond.selects "NandHouseModel" ({ cls := "NandHouseModel", name := "drop", desc := "(IJ)I" } : Jvm.MethodName) ({ cls := "NandHouseModel", name := "drop", desc := "(IJ)I" } : Jvm.MethodName)) ∈ lw_all := lw_g (lw_at lw_m9 177 rfl) rfl
theorem q2228 : (Jvm.Cond.code ({ cls := "NandHouseModel", name := "drop", desc := "(IJ)I" } : Jvm.MethodName) prog_12_method_60_code (5 : Nat) (Option.some Jvm.ClassFile.FieldType.int)) ∈ lw_all := lw_g (lw_at lw_m9 178 rfl) rfl
theorem q2230 : (Jvm.Cond.instanceMethod ({ cls := "NandHouseModel", name := "attribute", desc := "(IJ)J" } : Jvm.MethodName)) ∈ lw_all := lw_g (lw_at lw_m9 180 rfl) rfl
theorem q2231 : (Jvm.Cond.selects "NandHouseModel" ({ cls := "NandHouseModel", name := "attribute", desc := "(IJ)J" } : Jvm.MethodName) ({ cls := "NandHouseModel", name := "attribute", desc := "(IJ)J" } : Jvm.MethodName)) ∈ lw_all := lw_g (lw_at lw_m9 181 rfl) rfl
theorem q2232 : (Jvm.Cond.code ({ cls := "NandHouseModel", name := "attribute", desc := "(IJ)J" } : Jvm.MethodName) prog_12_method_61_code (5 : Nat) (Option.some Jvm.ClassFile.FieldType.long)) ∈ lw_all := lw_g (lw_at lw_m9 182 rfl) rfl
theorem q2234 : (Jvm.Cond.instanceMethod ({ cls := "NandHouseModel", name := "attributes", desc := "(I)I" } : Jvm.MethodName)) ∈ lw_all := lw_g (lw_at lw_m9 184 rfl) rfl
theorem q2235 : (Jvm.Cond.selects "NandHouseModel" ({ cls := "NandHouseModel", name := "attributes", desc := "(I)I" } : Jvm.MethodName) ({ cls := "NandHouseModel", name := "attributes", desc := "(I)I" } : Jvm.MethodName)) ∈ lw_all := lw_g (lw_at lw_m9 185 rfl) rfl
theorem q2236 : (Jvm.Cond.code ({ cls := "NandHouseModel", name := "attributes", desc := "(I)I" } : Jvm.MethodName) prog_12_method_62_code (2 : Nat) (Option.some Jvm.ClassFile.FieldType.int)) ∈ lw_all := lw_g (lw_at lw_m9 186 rfl) rfl
theorem q2238 : (Jvm.Cond.instanceMethod ({ cls := "NandHouseModel", name := "key", desc := "(II)J" } : Jvm.MethodName)) ∈ lw_all := lw_g (lw_at lw_m9 188 rfl) rfl
theorem q2239 : (Jvm.Cond.selects "NandHouseModel" ({ cls := "NandHouseModel", name := "key", desc := "(II)J" } : Jvm.MethodName) ({ cls := "NandHouseModel", name := "key", desc := "(II)J" } : Jvm.MethodName)) ∈ lw_all := lw_g (lw_at lw_m9 189 rfl) rfl
theorem q2240 : (Jvm.Cond.code ({ cls := "NandHouseModel", name := "key", desc := "(II)J" } : Jvm.MethodName) prog_12_method_63_code (8 : Nat) (Option.some Jvm.ClassFile.FieldType.long)) ∈ lw_all := lw_g (lw_at lw_m9 190 rfl) rfl
theorem q2242 : (Jvm.Cond.instanceMethod ({ cls := "NandHouseModel", name := "open", desc := "(I)I" } : Jvm.MethodName)) ∈ lw_all := lw_g (lw_at lw_m9 192 rfl) rfl
theorem q2243 : (Jvm.Cond.selects "NandHouseModel" ({ cls := "NandHouseModel", name := "open", desc := "(I)I" } : Jvm.MethodName) ({ cls := "NandHouseModel", name := "open", desc := "(I)I" } : Jvm.MethodName)) ∈ lw_all := lw_g (lw_at lw_m9 193 rfl) rfl
theorem q2244 : (Jvm.Cond.code ({ cls := "NandHouseModel", name := "open", desc := "(I)I" } : Jvm.MethodName) prog_12_method_64_code (5 : Nat) (Option.some Jvm.ClassFile.FieldType.int)) ∈ lw_all := lw_g (lw_at lw_m9 194 rfl) rfl
theorem q2246 : (Jvm.Cond.instanceMethod ({ cls := "NandHouseModel", name := "close", desc := "(I)I" } : Jvm.MethodName)) ∈ lw_all := lw_g (lw_at lw_m9 196 rfl) rfl
theorem q2247 : (Jvm.Cond.selects "NandHouseModel" ({ cls := "NandHouseModel", name := "close", desc := "(I)I" } : Jvm.MethodName) ({ cls := "NandHouseModel", name := "close", desc := "(I)I" } : Jvm.MethodName)) ∈ lw_all := lw_g (lw_at lw_m9 197 rfl) rfl
theorem q2248 : (Jvm.Cond.code ({ cls := "NandHouseModel", name := "close", desc := "(I)I" } : Jvm.MethodName) prog_12_method_66_code (3 : Nat) (Option.some Jvm.ClassFile.FieldType.int)) ∈ lw_all := lw_g (lw_at lw_m9 198 rfl) rfl
theorem q2249 : (Jvm.Cond.methodLink "NandHouseModel" (288 : Nat) ({ cls := "NandHouseModel", name := "isHandle", desc := "(I)Z" } : Jvm.MethodName)) ∈ lw_all := lw_g (lw_at lw_m9 199 rfl) rfl
theorem q2250 : (Jvm.Cond.privateMethod ({ cls := "NandHouseModel", name := "isHandle", desc := "(I)Z" } : Jvm.MethodName)) ∈ lw_tbl := lw_at lw_m9 200 rfl
theorem q2251 : (Jvm.Cond.instanceMethod ({ cls := "NandHouseModel", name := "isHandle", desc := "(I)Z" } : Jvm.MethodName)) ∈ lw_all := lw_g (lw_at lw_m9 201 rfl) rfl
theorem q2252 : (Jvm.Cond.code ({ cls := "NandHouseModel", name := "isHandle", desc := "(I)Z" } : Jvm.MethodName) prog_12_method_65_code (2 : Nat) (Option.some Jvm.ClassFile.FieldType.boolean)) ∈ lw_all := lw_g (lw_at lw_m9 202 rfl) rfl
theorem q2254 : (Jvm.Cond.instanceMethod ({ cls := "NandHouseModel", name := "opened", desc := "(I)I" } : Jvm.MethodName)) ∈ lw_all := lw_g (lw_at lw_m9 204 rfl) rfl
theorem q2255 : (Jvm.Cond.selects "NandHouseModel" ({ cls := "NandHouseModel", name := "opened", desc := "(I)I" } : Jvm.MethodName) ({ cls := "NandHouseModel", name := "opened", desc := "(I)I" } : Jvm.MethodName)) ∈ lw_all := lw_g (lw_at lw_m9 205 rfl) rfl
theorem q2256 : (Jvm.Cond.code ({ cls := "NandHouseModel", name := "opened", desc := "(I)I" } : Jvm.MethodName) prog_12_method_67_code (2 : Nat) (Option.some Jvm.ClassFile.FieldType.int)) ∈ lw_all := lw_g (lw_at lw_m9 206 rfl) rfl
theorem q2258 : (Jvm.Cond.instanceMethod ({ cls := "NandHouseModel", name := "write", desc := "(IIJI)I" } : Jvm.MethodName)) ∈ lw_all := lw_g (lw_at lw_m9 208 rfl) rfl
theorem q2259 : (Jvm.Cond.selects "NandHouseModel" ({ cls := "NandHouseModel", name := "write", desc := "(IIJI)I" } : Jvm.MethodName) ({ cls := "NandHouseModel", name := "write", desc := "(IIJI)I" } : Jvm.MethodName)) ∈ lw_all := lw_g (lw_at lw_m9 209 rfl) rfl
theorem q2260 : (Jvm.Cond.code ({ cls := "NandHouseModel", name := "write", desc := "(IIJI)I" } : Jvm.MethodName) prog_12_method_70_code (6 : Nat) (Option.some Jvm.ClassFile.FieldType.int)) ∈ lw_all := lw_g (lw_at lw_m9 210 rfl) rfl
theorem q2261 : (Jvm.Cond.methodLink "NandHouseModel" (297 : Nat) ({ cls := "NandHouseModel", name := "writeAll", desc := "(IIIJI)I" } : Jvm.MethodName)) ∈ lw_all := lw_g (lw_at lw_m9 211 rfl) rfl
theorem q2262 : (Jvm.Cond.privateMethod ({ cls := "NandHouseModel", name := "writeAll", desc := "(IIIJI)I" } : Jvm.MethodName)) ∈ lw_tbl := lw_at lw_m9 212 rfl
theorem q2263 : (Jvm.Cond.instanceMethod ({ cls := "NandHouseModel", name := "writeAll", desc := "(IIIJI)I" } : Jvm.MethodName)) ∈ lw_all := lw_g (lw_at lw_m9 213 rfl) rfl
theorem q2264 : (Jvm.Cond.code ({ cls := "NandHouseModel", name := "writeAll", desc := "(IIIJI)I" } : Jvm.MethodName) prog_12_method_69_code (12 : Nat) (Option.some Jvm.ClassFile.FieldType.int)) ∈ lw_all := lw_g (lw_at lw_m9 214 rfl) rfl
theorem q2265 : (Jvm.Cond.methodLink "NandHouseModel" (293 : Nat) ({ cls := "NandHouseModel", name := "writePart", desc := "(IIIIJI)Z" } : Jvm.MethodName)) ∈ lw_all := lw_g (lw_at lw_m9 215 rfl) rfl
theorem q2266 : (Jvm.Cond.privateMethod ({ cls := "NandHouseModel", name := "writePart", desc := "(IIIIJI)Z" } : Jvm.MethodName)) ∈ lw_tbl := lw_at lw_m9 216 rfl
theorem q2267 : (Jvm.Cond.instanceMethod ({ cls := "NandHouseModel", name := "writePart", desc := "(IIIIJI)Z" } : Jvm.MethodName)) ∈ lw_all := lw_g (lw_at lw_m9 217 rfl) rfl
theorem q2268 : (Jvm.Cond.code ({ cls := "NandHouseModel", name := "writePart", desc := "(IIIIJI)Z" } : Jvm.MethodName) prog_12_method_68_code (17 : Nat) (Option.some Jvm.ClassFile.FieldType.boolean)) ∈ lw_all := lw_g (lw_at lw_m9 218 rfl) rfl
theorem q2269 : (Jvm.Cond.constantLong "NandHouseModel" (291 : Nat) (7 : Int64)) ∈ lw_all := lw_g (lw_at lw_m9 219 rfl) rfl
theorem q2271 : (Jvm.Cond.instanceMethod ({ cls := "NandHouseModel", name := "fill", desc := "(IIII)I" } : Jvm.MethodName)) ∈ lw_all := lw_g (lw_at lw_m9 221 rfl) rfl
theorem q2272 : (Jvm.Cond.selects "NandHouseModel" ({ cls := "NandHouseModel", name := "fill", desc := "(IIII)I" } : Jvm.MethodName) ({ cls := "NandHouseModel", name := "fill", desc := "(IIII)I" } : Jvm.MethodName)) ∈ lw_all := lw_g (lw_at lw_m9 222 rfl) rfl
theorem q2273 : (Jvm.Cond.code ({ cls := "NandHouseModel", name := "fill", desc := "(IIII)I" } : Jvm.MethodName) prog_12_method_71_code (5 : Nat) (Option.some Jvm.ClassFile.FieldType.int)) ∈ lw_all := lw_g (lw_at lw_m9 223 rfl) rfl
theorem q2275 : (Jvm.Cond.instanceMethod ({ cls := "NandHouseModel", name := "copy", desc := "(IIIII)I" } : Jvm.MethodName)) ∈ lw_all := lw_g (lw_at lw_m9 225 rfl) rfl
theorem q2276 : (Jvm.Cond.selects "NandHouseModel" ({ cls := "NandHouseModel", name := "copy", desc := "(IIIII)I" } : Jvm.MethodName) ({ cls := "NandHouseModel", name := "copy", desc := "(IIIII)I" } : Jvm.MethodName)) ∈ lw_all := lw_g (lw_at lw_m9 226 rfl) rfl
theorem q2277 : (Jvm.Cond.code ({ cls := "NandHouseModel", name := "copy", desc := "(IIIII)I" } : Jvm.MethodName) prog_12_method_72_code (9 : Nat) (Option.some Jvm.ClassFile.FieldType.int)) ∈ lw_all := lw_g (lw_at lw_m9 227 rfl) rfl
theorem q2279 : (Jvm.Cond.instanceMethod ({ cls := "NandHouseModel", name := "resize", desc := "(II)I" } : Jvm.MethodName)) ∈ lw_all := lw_g (lw_at lw_m9 229 rfl) rfl
theorem q2280 : (Jvm.Cond.selects "NandHouseModel" ({ cls := "NandHouseModel", name := "resize", desc := "(II)I" } : Jvm.MethodName) ({ cls := "NandHouseModel", name := "resize", desc := "(II)I" } : Jvm.MethodName)) ∈ lw_all := lw_g (lw_at lw_m9 230 rfl) rfl
theorem q2281 : (Jvm.Cond.code ({ cls := "NandHouseModel", name := "resize", desc := "(II)I" } : Jvm.MethodName) prog_12_method_73_code (8 : Nat) (Option.some Jvm.ClassFile.FieldType.int)) ∈ lw_all := lw_g (lw_at lw_m9 231 rfl) rfl
theorem q2283 : (Jvm.Cond.instanceMethod ({ cls := "NandHouseModel", name := "byteAt", desc := "(II)I" } : Jvm.MethodName)) ∈ lw_all := lw_g (lw_at lw_m9 233 rfl) rfl
theorem q2284 : (Jvm.Cond.selects "NandHouseModel" ({ cls := "NandHouseModel", name := "byteAt", desc := "(II)I" } : Jvm.MethodName) ({ cls := "NandHouseModel", name := "byteAt", desc := "(II)I" } : Jvm.MethodName)) ∈ lw_all := lw_g (lw_at lw_m9 234 rfl) rfl
theorem q2285 : (Jvm.Cond.code ({ cls := "NandHouseModel", name := "byteAt", desc := "(II)I" } : Jvm.MethodName) prog_12_method_75_code (3 : Nat) (Option.some Jvm.ClassFile.FieldType.int)) ∈ lw_all := lw_g (lw_at lw_m9 235 rfl) rfl
theorem q2287 : (Jvm.Cond.instanceMethod ({ cls := "NandHouseModel", name := "word", desc := "(II)J" } : Jvm.MethodName)) ∈ lw_all := lw_g (lw_at lw_m9 237 rfl) rfl
theorem q2288 : (Jvm.Cond.selects "NandHouseModel" ({ cls := "NandHouseModel", name := "word", desc := "(II)J" } : Jvm.MethodName) ({ cls := "NandHouseModel", name := "word", desc := "(II)J" } : Jvm.MethodName)) ∈ lw_all := lw_g (lw_at lw_m9 238 rfl) rfl
theorem q2289 : (Jvm.Cond.code ({ cls := "NandHouseModel", name := "word", desc := "(II)J" } : Jvm.MethodName) prog_12_method_76_code (9 : Nat) (Option.some Jvm.ClassFile.FieldType.long)) ∈ lw_all := lw_g (lw_at lw_m9 239 rfl) rfl
theorem q2291 : (Jvm.Cond.instanceMethod ({ cls := "NandHouseModel", name := "sum", desc := "(I)J" } : Jvm.MethodName)) ∈ lw_all := lw_g (lw_at lw_m10 1 rfl) rfl
theorem q2292 : (Jvm.Cond.selects "NandHouseModel" ({ cls := "NandHouseModel", name := "sum", desc := "(I)J" } : Jvm.MethodName) ({ cls := "NandHouseModel", name := "sum", desc := "(I)J" } : Jvm.MethodName)) ∈ lw_all := lw_g (lw_at lw_m10 2 rfl) rfl
theorem q2293 : (Jvm.Cond.code ({ cls := "NandHouseModel", name := "sum", desc := "(I)J" } : Jvm.MethodName) prog_12_method_77_code (6 : Nat) (Option.some Jvm.ClassFile.FieldType.long)) ∈ lw_all := lw_g (lw_at lw_m10 3 rfl) rfl
theorem q2294 : (Jvm.Cond.constantLong "NandHouseModel" (301 : Nat) (255 : Int64)) ∈ lw_all := lw_g (lw_at lw_m10 4 rfl) rfl
theorem q2296 : (Jvm.Cond.instanceMethod ({ cls := "NandHouseModel", name := "rawWrite", desc := "(II)I" } : Jvm.MethodName)) ∈ lw_all := lw_g (lw_at lw_m10 6 rfl) rfl
theorem q2297 : (Jvm.Cond.selects "NandHouseModel" ({ cls := "NandHouseModel", name := "rawWrite", desc := "(II)I" } : Jvm.MethodName) ({ cls := "NandHouseModel", name := "rawWrite", desc := "(II)I" } : Jvm.MethodName)) ∈ lw_all := lw_g (lw_at lw_m10 7 rfl) rfl
theorem q2298 : (Jvm.Cond.code ({ cls := "NandHouseModel", name := "rawWrite", desc := "(II)I" } : Jvm.MethodName) prog_12_method_80_code (3 : Nat) (Option.some Jvm.ClassFile.FieldType.int)) ∈ lw_all := lw_g (lw_at lw_m10 8 rfl) rfl
theorem q2299 : (Jvm.Cond.methodLink "NandHouseModel" (303 : Nat) ({ cls := "NandHouseModel", name := "isRaw", desc := "(I)Z" } : Jvm.MethodName)) ∈ lw_all := lw_g (lw_at lw_m10 9 rfl) rfl
theorem q2300 : (Jvm.Cond.privateMethod ({ cls := "NandHouseModel", name := "isRaw", desc := "(I)Z" } : Jvm.MethodName)) ∈ lw_tbl := lw_at lw_m10 10 rfl
theorem q2301 : (Jvm.Cond.instanceMethod ({ cls := "NandHouseModel", name := "isRaw", desc := "(I)Z" } : Jvm.MethodName)) ∈ lw_all := lw_g (lw_at lw_m10 11 rfl) rfl
theorem q2302 : (Jvm.Cond.code ({ cls := "NandHouseModel", name := "isRaw", desc := "(I)Z" } : Jvm.MethodName) prog_12_method_78_code (2 : Nat) (Option.some Jvm.ClassFile.FieldType.boolean)) ∈ lw_all := lw_g (lw_at lw_m10 12 rfl) rfl
theorem q2303 : (Jvm.Cond.methodLink "NandHouseModel" (306 : Nat) ({ cls := "NandHouseModel", name := "rawPage", desc := "(III)V" } : Jvm.MethodName)) ∈ lw_all := lw_g (lw_at lw_m10 13 rfl) rfl
theorem q2304 : (Jvm.Cond.privateMethod ({ cls := "NandHouseModel", name := "rawPage", desc := "(III)V" } : Jvm.MethodName)) ∈ lw_tbl := lw_at lw_m10 14 rfl
theorem q2305 : (Jvm.Cond.instanceMethod ({ cls := "NandHouseModel", name := "rawPage", desc := "(III)V" } : Jvm.MethodName)) ∈ lw_all := lw_g (lw_at lw_m10 15 rfl) rfl
theorem q2306 : (Jvm.Cond.code ({ cls := "NandHouseModel", name := "rawPage", desc := "(III)V" } : Jvm.MethodName) prog_12_method_79_code (5 : Nat) (Option.none : Option Jvm.ClassFile.FieldType)) ∈ lw_all := lw_g (lw_at lw_m10 16 rfl) rfl
theorem q2308 : (Jvm.Cond.instanceMethod ({ cls := "NandHouseModel", name := "rawChange", desc := "(III)I" } : Jvm.MethodName)) ∈ lw_all := lw_g (lw_at lw_m10 18 rfl) rfl
theorem q2309 : (Jvm.Cond.selects "NandHouseModel" ({ cls := "NandHouseModel", name := "rawChange", desc := "(III)I" } : Jvm.MethodName) ({ cls := "NandHouseModel", name := "rawChange", desc := "(III)I" } : Jvm.MethodName)) ∈ lw_all := lw_g (lw_at lw_m10 19 rfl) rfl
theorem q2310 : (Jvm.Cond.code ({ cls := "NandHouseModel", name := "rawChange", desc := "(III)I" } : Jvm.MethodName) prog_12_method_81_code (6 : Nat) (Option.some Jvm.ClassFile.FieldType.int)) ∈ lw_all := lw_g (lw_at lw_m10 20 rfl) rfl
theorem q2312 : (Jvm.Cond.instanceMethod ({ cls := "NandHouseModel", name := "rawByte", desc := "(II)I" } : Jvm.MethodName)) ∈ lw_all := lw_g (lw_at lw_m10 22 rfl) rfl
theorem q2313 : (Jvm.Cond.selects "NandHouseModel" ({ cls := "NandHouseModel", name := "rawByte", desc := "(II)I" } : Jvm.MethodName) ({ cls := "NandHouseModel", name := "rawByte", desc := "(II)I" } : Jvm.MethodName)) ∈ lw_all := lw_g (lw_at lw_m10 23 rfl) rfl
theorem q2314 : (Jvm.Cond.code ({ cls := "NandHouseModel", name := "rawByte", desc := "(II)I" } : Jvm.MethodName) prog_12_method_82_code (3 : Nat) (Option.some Jvm.ClassFile.FieldType.int)) ∈ lw_all := lw_g (lw_at lw_m10 24 rfl) rfl
theorem q2316 : (Jvm.Cond.instanceMethod ({ cls := "NandHouseModel", name := "rawPages", desc := "(I)I" } : Jvm.MethodName)) ∈ lw_all := lw_g (lw_at lw_m10 26 rfl) rfl
theorem q2317 : (Jvm.Cond.selects "NandHouseModel" ({ cls := "NandHouseModel", name := "rawPages", desc := "(I)I" } : Jvm.MethodName) ({ cls := "NandHouseModel", name := "rawPages", desc := "(I)I" } : Jvm.MethodName)) ∈ lw_all := lw_g (lw_at lw_m10 27 rfl) rfl
theorem q2318 : (Jvm.Cond.code ({ cls := "NandHouseModel", name := "rawPages", desc := "(I)I" } : Jvm.MethodName) prog_12_method_83_code (2 : Nat) (Option.some Jvm.ClassFile.FieldType.int)) ∈ lw_all := lw_g (lw_at lw_m10 28 rfl) rfl
theorem q2320 : (Jvm.Cond.instanceMethod ({ cls := "NandHouseModel", name := "sync", desc := "()I" } : Jvm.MethodName)) ∈ lw_all := lw_g (lw_at lw_m10 30 rfl) rfl
theorem q2321 : (Jvm.Cond.selects "NandHouseModel" ({ cls := "NandHouseModel", name := "sync", desc := "()I" } : Jvm.MethodName) ({ cls := "NandHouseModel", name := "sync", desc := "()I" } : Jvm.MethodName)) ∈ lw_all := lw_g (lw_at lw_m10 31 rfl) rfl
theorem q2322 : (Jvm.Cond.code ({ cls := "NandHouseModel", name := "sync", desc := "()I" } : Jvm.MethodName) prog_12_method_84_code (2 : Nat) (Option.some Jvm.ClassFile.FieldType.int)) ∈ lw_all := lw_g (lw_at lw_m10 32 rfl) rfl
theorem q2324 : (Jvm.Cond.instanceMethod ({ cls := "NandHouseModel", name := "waiting", desc := "()I" } : Jvm.MethodName)) ∈ lw_all := lw_g (lw_at lw_m10 34 rfl) rfl
theorem q2325 : (Jvm.Cond.selects "NandHouseModel" ({ cls := "NandHouseModel", name := "waiting", desc := "()I" } : Jvm.MethodName) ({ cls := "NandHouseModel", name := "waiting", desc := "()I" } : Jvm.MethodName)) ∈ lw_all := lw_g (lw_at lw_m10 35 rfl) rfl
theorem q2326 : (Jvm.Cond.code ({ cls := "NandHouseModel", name := "waiting", desc := "()I" } : Jvm.MethodName) prog_12_method_85_code (1 : Nat) (Option.some Jvm.ClassFile.FieldType.int)) ∈ lw_all := lw_g (lw_at lw_m10 36 rfl) rfl
theorem q2328 : (Jvm.Cond.instanceMethod ({ cls := "NandHouseModel", name := "cut", desc := "()I" } : Jvm.MethodName)) ∈ lw_all := lw_g (lw_at lw_m10 38 rfl) rfl
theorem q2329 : (Jvm.Cond.selects "NandHouseModel" ({ cls := "NandHouseModel", name := "cut", desc := "()I" } : Jvm.MethodName) ({ cls := "NandHouseModel", name := "cut", desc := "()I" } : Jvm.MethodName)) ∈ lw_all := lw_g (lw_at lw_m10 39 rfl) rfl
theorem q2330 : (Jvm.Cond.code ({ cls := "NandHouseModel", name := "cut", desc := "()I" } : Jvm.MethodName) prog_12_method_87_code (4 : Nat) (Option.some Jvm.ClassFile.FieldType.int)) ∈ lw_all := lw_g (lw_at lw_m10 40 rfl) rfl
theorem q2331 : (Jvm.Cond.methodLink "NandHouseModel" (312 : Nat) ({ cls := "NandHouseModel", name := "copyTree", desc := "(II)V" } : Jvm.MethodName)) ∈ lw_all := lw_g (lw_at lw_m10 41 rfl) rfl
theorem q2332 : (Jvm.Cond.privateMethod ({ cls := "NandHouseModel", name := "copyTree", desc := "(II)V" } : Jvm.MethodName)) ∈ lw_tbl := lw_at lw_m10 42 rfl
theorem q2333 : (Jvm.Cond.instanceMethod ({ cls := "NandHouseModel", name := "copyTree", desc := "(II)V" } : Jvm.MethodName)) ∈ lw_all := lw_g (lw_at lw_m10 43 rfl) rfl
theorem q2334 : (Jvm.Cond.code ({ cls := "NandHouseModel", name := "copyTree", desc := "(II)V" } : Jvm.MethodName) prog_12_method_86_code (5 : Nat) (Option.none : Option Jvm.ClassFile.FieldType)) ∈ lw_all := lw_g (lw_at lw_m10 44 rfl) rfl
theorem q2336 : (Jvm.Cond.instanceMethod ({ cls := "NandHouseModel", name := "on", desc := "()I" } : Jvm.MethodName)) ∈ lw_all := lw_g (lw_at lw_m10 46 rfl) rfl
theorem q2337 : (Jvm.Cond.selects "NandHouseModel" ({ cls := "NandHouseModel", name := "on", desc := "()I" } : Jvm.MethodName) ({ cls := "NandHouseModel", name := "on", desc := "()I" } : Jvm.MethodName)) ∈ lw_all := lw_g (lw_at lw_m10 47 rfl) rfl
theorem q2338 : (Jvm.Cond.code ({ cls := "NandHouseModel", name := "on", desc := "()I" } : Jvm.MethodName) prog_12_method_88_code (1 : Nat) (Option.some Jvm.ClassFile.FieldType.int)) ∈ lw_all := lw_g (lw_at lw_m10 48 rfl) rfl
theorem q2340 : (Jvm.Cond.instanceMethod ({ cls := "NandHouseModel", name := "work", desc := "()V" } : Jvm.MethodName)) ∈ lw_all := lw_g (lw_at lw_m10 50 rfl) rfl
theorem q2341 : (Jvm.Cond.selects "NandHouseModel" ({ cls := "NandHouseModel", name := "work", desc := "()V" } : Jvm.MethodName) ({ cls := "NandHouseModel", name := "work", desc := "()V" } : Jvm.MethodName)) ∈ lw_all := lw_g (lw_at lw_m10 51 rfl) rfl
theorem q2342 : (Jvm.Cond.code ({ cls := "NandHouseModel", name := "work", desc := "()V" } : Jvm.MethodName) prog_12_method_89_code (1 : Nat) (Option.none : Option Jvm.ClassFile.FieldType)) ∈ lw_all := lw_g (lw_at lw_m10 52 rfl) rfl
theorem q2344 : (Jvm.Cond.instanceMethod ({ cls := "NandHouseModel", name := "fail", desc := "(I)Z" } : Jvm.MethodName)) ∈ lw_all := lw_g (lw_at lw_m10 54 rfl) rfl
theorem q2345 : (Jvm.Cond.selects "NandHouseModel" ({ cls := "NandHouseModel", name := "fail", desc := "(I)Z" } : Jvm.MethodName) ({ cls := "NandHouseModel", name := "fail", desc := "(I)Z" } : Jvm.MethodName)) ∈ lw_all := lw_g (lw_at lw_m10 55 rfl) rfl
theorem q2346 : (Jvm.Cond.code ({ cls := "NandHouseModel", name := "fail", desc := "(I)Z" } : Jvm.MethodName) prog_12_method_90_code (3 : Nat) (Option.some Jvm.ClassFile.FieldType.boolean)) ∈ lw_all := lw_g (lw_at lw_m10 56 rfl) rfl
theorem q2348 : (Jvm.Cond.instanceMethod ({ cls := "NandHouseModel", name := "flip", desc := "(I)Z" } : Jvm.MethodName)) ∈ lw_all := lw_g (lw_at lw_m10 58 rfl) rfl
theorem q2349 : (Jvm.Cond.selects "NandHouseModel" ({ cls := "NandHouseModel", name := "flip", desc := "(I)Z" } : Jvm.MethodName) ({ cls := "NandHouseModel", name := "flip", desc := "(I)Z" } : Jvm.MethodName)) ∈ lw_all := lw_g (lw_at lw_m10 59 rfl) rfl
theorem q2350 : (Jvm.Cond.code ({ cls := "NandHouseModel", name := "flip", desc := "(I)Z" } : Jvm.MethodName) prog_12_method_91_code (3 : Nat) (Option.some Jvm.ClassFile.FieldType.boolean)) ∈ lw_all := lw_g (lw_at lw_m10 60 rfl) rfl
theorem q2352 : (Jvm.Cond.instanceMethod ({ cls := "NandHouseModel", name := "told", desc := "(I)I" } : Jvm.MethodName)) ∈ lw_all := lw_g (lw_at lw_m10 62 rfl) rfl
theorem q2353 : (Jvm.Cond.selects "NandHouseModel" ({ cls := "NandHouseModel", name := "told", desc := "(I)I" } : Jvm.MethodName) ({ cls := "NandHouseModel", name := "told", desc := "(I)I" } : Jvm.MethodName)) ∈ lw_all := lw_g (lw_at lw_m10 63 rfl) rfl
theorem q2354 : (Jvm.Cond.code ({ cls := "NandHouseModel", name := "told", desc := "(I)I" } : Jvm.MethodName) prog_12_method_92_code (4 : Nat) (Option.some Jvm.ClassFile.FieldType.int)) ∈ lw_all := lw_g (lw_at lw_m10 64 rfl) rfl
theorem q2356 : (Jvm.Cond.instanceMethod ({ cls := "NandHouseModel", name := "sound", desc := "()Z" } : Jvm.MethodName)) ∈ lw_all := lw_g (lw_at lw_m10 66 rfl) rfl
theorem q2357 : (Jvm.Cond.selects "NandHouseModel" ({ cls := "NandHouseModel", name := "sound", desc := "()Z" } : Jvm.MethodName) ({ cls := "NandHouseModel", name := "sound", desc := "()Z" } : Jvm.MethodName)) ∈ lw_all := lw_g (lw_at lw_m10 67 rfl) rfl
theorem q2358 : (Jvm.Cond.code ({ cls := "NandHouseModel", name := "sound", desc := "()Z" } : Jvm.MethodName) prog_12_method_93_code (1 : Nat) (Option.some Jvm.ClassFile.FieldType.boolean)) ∈ lw_all := lw_g (lw_at lw_m10 68 rfl) rfl
theorem in_X11 : ∀ w ∈ wsX110, w ∈ lw_all := lw_in wsX110 [1903, 1905, 1907, 1909, 1911, 1913, 1915, 1917, 1919, 1921, 1923, 1925, 1927, 1929, 1931, 1933, 1935, 1937, 1939, 1941, 1943, 1945, 1947, 1949, 1951, 1953, 1955, 1957, 1959, 1961, 1963, 1965, 1967, 1969, 1971, 1973, 1975, 1977, 1979, 1981, 1983, 1985, 1987, 1989, 1991, 1993, 1995, 1997, 1999] (by decide +kernel) (by decide +kernel)
