/-! NandHouse -/
set_option maxRecDepth 100000
def RX1 : String := "NandHouse"
def TX1 : u_T := fun k => match k with
  | 0 => ("NandHouse", "flash", "LNandHouse$Flash;", true)
  | 1 => ("NandHouse", "store", "LNandHouse$Store;", true)
  | 2 => ("NandHouse", "probe", "LNandHouse$Store;", true)
  | 3 => ("NandHouse", "sums", "[I", true)
  | 4 => ("NandHouse", "capacity", "I", true)
  | 5 => ("NandHouse", "isOn", "Z", false)
  | 6 => ("NandHouse", "handles", "[I", true)
  | 7 => ("NandHouse", "live", "I", false)
  | 8 => ("NandHouse", "things", "I", false)
  | 9 => ("NandHouse", "fails", "I", false)
  | 10 => ("NandHouse", "flips", "I", false)
  | 11 => ("NandHouse", "group", "LNandHouse$Row;", true)
  | 12 => ("NandHouse", "old", "LNandHouse$Row;", true)
  | 13 => ("NandHouse", "bytes", "[B", true)
  | 14 => ("NandHouse", "one", "LNandHouse$Inode;", true)
  | 15 => ("NandHouse", "other", "LNandHouse$Inode;", true)
  | 16 => ("NandHouse", "third", "LNandHouse$Inode;", true)
  | 17 => ("NandHouse", "fourth", "LNandHouse$Inode;", true)
  | 18 => ("NandHouse", "line", "[I", true)
  | 19 => ("NandHouse", "names", "[J", true)
  | 20 => ("NandHouse", "named", "[I", true)
  | 21 => ("NandHouse", "copied", "[B", true)
  | 22 => ("NandHouse", "sheet", "[B", true)
  | 23 => ("NandHouse", "tape", "[B", true)
  | 24 => ("NandHouse", "taped", "I", false)
  | 25 => ("NandHouse", "way", "[B", true)
  | 26 => ("NandHouse", "raw", "I", true)
  | 27 => ("NandHouse", "slot", "I", false)
  | 28 => ("NandHouse", "freeSlot", "I", false)
  | _ => ("NandHouse", "nameFound", "J", false)
def tyX1 : Nat → FieldType := fun k => match k with
  | 0 => .object "NandHouse$Flash"
  | 1 => .object "NandHouse$Store"
  | 2 => .object "NandHouse$Store"
  | 3 => .array .int
  | 4 => .int
  | 5 => .boolean
  | 6 => .array .int
  | 7 => .int
  | 8 => .int
  | 9 => .int
  | 10 => .int
  | 11 => .object "NandHouse$Row"
  | 12 => .object "NandHouse$Row"
  | 13 => .array .byte
  | 14 => .object "NandHouse$Inode"
  | 15 => .object "NandHouse$Inode"
  | 16 => .object "NandHouse$Inode"
  | 17 => .object "NandHouse$Inode"
  | 18 => .array .int
  | 19 => .array .long
  | 20 => .array .int
  | 21 => .array .byte
  | 22 => .array .byte
  | 23 => .array .byte
  | 24 => .int
  | 25 => .array .byte
  | 26 => .int
  | 27 => .int
  | 28 => .int
  | _ => .long
abbrev wsX10 : List Cond := u_ws RX1 TX1 30
set_option maxRecDepth 100000 in
theorem nmX1 : ∀ a, a < 30 → ∀ b, b < 30 → a ≠ b → (TX1 a).2.1 ≠ (TX1 b).2.1 := by decide +kernel
set_option maxRecDepth 100000 in
theorem tyX1_ok : ∀ k, k < 30 → parseFieldDescriptor (TX1 k).2.2.1 = some (tyX1 k) := by decide +kernel
abbrev cX1_init : ByteArray := prog_1_method_11_code
def yX1_init : MethodName := ⟨RX1, "<init>", "(III)V"⟩
def dkwX1_init_13 : List UInt8 := [181, 0, 121, 42, 180, 0, 111, 182, 0, 124, 42, 182, 0, 127, 177]
abbrev dktX1_init_13 : List UInt8 := dkwX1_init_13 ++ []
def dkwX1_init_12 : List UInt8 := [42, 21, 4, 16, 18, 100, 42, 180, 0, 102, 100, 21, 5, 5, 100, 17, 0, 128, 104, 17, 1, 0, 100, 104]
abbrev dktX1_init_12 : List UInt8 := dkwX1_init_12 ++ dktX1_init_13
def dkwX1_init_11 : List UInt8 := [180, 0, 98, 42, 180, 0, 102, 183, 0, 108, 181, 0, 115, 42, 21, 4, 16, 6, 100, 188, 10, 181, 0, 118]
abbrev dktX1_init_11 : List UInt8 := dkwX1_init_11 ++ dktX1_init_12
def dkwX1_init_10 : List UInt8 := [187, 0, 106, 89, 42, 180, 0, 98, 42, 180, 0, 102, 183, 0, 108, 181, 0, 111, 42, 187, 0, 106, 89, 42]
abbrev dktX1_init_10 : List UInt8 := dkwX1_init_10 ++ dktX1_init_11
def dkwX1_init_9 : List UInt8 := [181, 0, 98, 42, 29, 3, 7, 184, 0, 89, 153, 0, 7, 29, 167, 0, 4, 3, 181, 0, 102, 42]
abbrev dktX1_init_9 : List UInt8 := dkwX1_init_9 ++ dktX1_init_10
def dkwX1_init_8 : List UInt8 := [153, 0, 7, 28, 167, 0, 5, 16, 16, 54, 5, 42, 187, 0, 93, 89, 21, 4, 21, 5, 183, 0, 95]
abbrev dktX1_init_8 : List UInt8 := dkwX1_init_8 ++ dktX1_init_9
def dkwX1_init_7 : List UInt8 := [16, 64, 184, 0, 89, 153, 0, 7, 27, 167, 0, 5, 16, 32, 54, 4, 28, 16, 8, 16, 32, 184, 0, 89]
abbrev dktX1_init_7 : List UInt8 := dkwX1_init_7 ++ dktX1_init_8
def dkwX1_init_6 : List UInt8 := [181, 0, 80, 42, 17, 0, 200, 188, 8, 181, 0, 83, 42, 17, 4, 0, 188, 8, 181, 0, 86, 27, 16, 24]
abbrev dktX1_init_6 : List UInt8 := dkwX1_init_6 ++ dktX1_init_7
def dkwX1_init_5 : List UInt8 := [42, 17, 3, 0, 188, 10, 181, 0, 74, 42, 17, 8, 0, 188, 8, 181, 0, 77, 42, 17, 0, 128, 188, 8]
abbrev dktX1_init_5 : List UInt8 := dkwX1_init_5 ++ dktX1_init_6
def dkwX1_init_4 : List UInt8 := [183, 0, 53, 181, 0, 64, 42, 17, 4, 0, 188, 10, 181, 0, 67, 42, 17, 3, 0, 188, 11, 181, 0, 70]
abbrev dktX1_init_4 : List UInt8 := dkwX1_init_4 ++ dktX1_init_5
def dkwX1_init_3 : List UInt8 := [183, 0, 53, 181, 0, 58, 42, 187, 0, 51, 89, 183, 0, 53, 181, 0, 61, 42, 187, 0, 51, 89]
abbrev dktX1_init_3 : List UInt8 := dkwX1_init_3 ++ dktX1_init_4
def dkwX1_init_2 : List UInt8 := [16, 64, 188, 8, 181, 0, 47, 42, 187, 0, 51, 89, 183, 0, 53, 181, 0, 54, 42, 187, 0, 51, 89]
abbrev dktX1_init_2 : List UInt8 := dkwX1_init_2 ++ dktX1_init_3
def dkwX1_init_1 : List UInt8 := [17, 2, 0, 183, 0, 37, 181, 0, 40, 42, 187, 0, 35, 89, 17, 1, 64, 183, 0, 37, 181, 0, 44, 42]
abbrev dktX1_init_1 : List UInt8 := dkwX1_init_1 ++ dktX1_init_2
def dkwX1_init_0 : List UInt8 := [42, 183, 0, 22, 42, 4, 181, 0, 28, 42, 16, 8, 188, 10, 181, 0, 32, 42, 187, 0, 35, 89]
abbrev dktX1_init_0 : List UInt8 := dkwX1_init_0 ++ dktX1_init_1
theorem dksX1_init_0 : cX1_init.data.toList.drop 0 = dktX1_init_0 := by decide +kernel
theorem dksX1_init_1 : cX1_init.data.toList.drop 22 = dktX1_init_1 := dk_seg dksX1_init_0 22 rfl rfl
theorem dksX1_init_2 : cX1_init.data.toList.drop 46 = dktX1_init_2 := dk_seg dksX1_init_1 24 rfl rfl
theorem dksX1_init_3 : cX1_init.data.toList.drop 69 = dktX1_init_3 := dk_seg dksX1_init_2 23 rfl rfl
theorem dksX1_init_4 : cX1_init.data.toList.drop 91 = dktX1_init_4 := dk_seg dksX1_init_3 22 rfl rfl
theorem dksX1_init_5 : cX1_init.data.toList.drop 115 = dktX1_init_5 := dk_seg dksX1_init_4 24 rfl rfl
theorem dksX1_init_6 : cX1_init.data.toList.drop 139 = dktX1_init_6 := dk_seg dksX1_init_5 24 rfl rfl
theorem dksX1_init_7 : cX1_init.data.toList.drop 163 = dktX1_init_7 := dk_seg dksX1_init_6 24 rfl rfl
theorem dksX1_init_8 : cX1_init.data.toList.drop 187 = dktX1_init_8 := dk_seg dksX1_init_7 24 rfl rfl
theorem dksX1_init_9 : cX1_init.data.toList.drop 210 = dktX1_init_9 := dk_seg dksX1_init_8 23 rfl rfl
theorem dksX1_init_10 : cX1_init.data.toList.drop 232 = dktX1_init_10 := dk_seg dksX1_init_9 22 rfl rfl
theorem dksX1_init_11 : cX1_init.data.toList.drop 256 = dktX1_init_11 := dk_seg dksX1_init_10 24 rfl rfl
theorem dksX1_init_12 : cX1_init.data.toList.drop 280 = dktX1_init_12 := dk_seg dksX1_init_11 24 rfl rfl
theorem dksX1_init_13 : cX1_init.data.toList.drop 304 = dktX1_init_13 := dk_seg dksX1_init_12 24 rfl rfl
theorem dX1_init_0 : decode cX1_init 0 = .ok (.aload_n 0, 1) := dk_42 (dk_at dksX1_init_0 0 rfl rfl)
theorem dX1_init_1 : decode cX1_init 1 = .ok (.invokespecial 22, 3) := dk_183 0 22 (dk_at dksX1_init_0 1 rfl rfl)
theorem dX1_init_4 : decode cX1_init 4 = .ok (.aload_n 0, 1) := dk_42 (dk_at dksX1_init_0 4 rfl rfl)
theorem dX1_init_5 : decode cX1_init 5 = .ok (.iconst 1, 1) := dk_4 (dk_at dksX1_init_0 5 rfl rfl)
theorem dX1_init_6 : decode cX1_init 6 = .ok (.putfield 28, 3) := dk_181 0 28 (dk_at dksX1_init_0 6 rfl rfl)
theorem dX1_init_9 : decode cX1_init 9 = .ok (.aload_n 0, 1) := dk_42 (dk_at dksX1_init_0 9 rfl rfl)
theorem dX1_init_10 : decode cX1_init 10 = .ok (.bipush 8, 2) := dk_16 8 (dk_at dksX1_init_0 10 rfl rfl)
theorem dX1_init_12 : decode cX1_init 12 = .ok (.newarray .int, 2) := dk_188_10 (dk_at dksX1_init_0 12 rfl rfl)
theorem dX1_init_14 : decode cX1_init 14 = .ok (.putfield 32, 3) := dk_181 0 32 (dk_at dksX1_init_0 14 rfl rfl)
theorem dX1_init_17 : decode cX1_init 17 = .ok (.aload_n 0, 1) := dk_42 (dk_at dksX1_init_0 17 rfl rfl)
theorem dX1_init_18 : decode cX1_init 18 = .ok (.new 35, 3) := dk_187 0 35 (dk_at dksX1_init_0 18 rfl rfl)
theorem dX1_init_21 : decode cX1_init 21 = .ok (.dup, 1) := dk_89 (dk_at dksX1_init_0 21 rfl rfl)
theorem dX1_init_22 : decode cX1_init 22 = .ok (.sipush 512, 3) := dk_17 2 0 (dk_at dksX1_init_1 0 rfl rfl)
theorem dX1_init_25 : decode cX1_init 25 = .ok (.invokespecial 37, 3) := dk_183 0 37 (dk_at dksX1_init_1 3 rfl rfl)
theorem dX1_init_28 : decode cX1_init 28 = .ok (.putfield 40, 3) := dk_181 0 40 (dk_at dksX1_init_1 6 rfl rfl)
theorem dX1_init_31 : decode cX1_init 31 = .ok (.aload_n 0, 1) := dk_42 (dk_at dksX1_init_1 9 rfl rfl)
theorem dX1_init_32 : decode cX1_init 32 = .ok (.new 35, 3) := dk_187 0 35 (dk_at dksX1_init_1 10 rfl rfl)
theorem dX1_init_35 : decode cX1_init 35 = .ok (.dup, 1) := dk_89 (dk_at dksX1_init_1 13 rfl rfl)
theorem dX1_init_36 : decode cX1_init 36 = .ok (.sipush 320, 3) := dk_17 1 64 (dk_at dksX1_init_1 14 rfl rfl)
theorem dX1_init_39 : decode cX1_init 39 = .ok (.invokespecial 37, 3) := dk_183 0 37 (dk_at dksX1_init_1 17 rfl rfl)
theorem dX1_init_42 : decode cX1_init 42 = .ok (.putfield 44, 3) := dk_181 0 44 (dk_at dksX1_init_1 20 rfl rfl)
theorem dX1_init_45 : decode cX1_init 45 = .ok (.aload_n 0, 1) := dk_42 (dk_at dksX1_init_1 23 rfl rfl)
theorem dX1_init_46 : decode cX1_init 46 = .ok (.bipush 64, 2) := dk_16 64 (dk_at dksX1_init_2 0 rfl rfl)
theorem dX1_init_48 : decode cX1_init 48 = .ok (.newarray .byte, 2) := dk_188_8 (dk_at dksX1_init_2 2 rfl rfl)
theorem dX1_init_50 : decode cX1_init 50 = .ok (.putfield 47, 3) := dk_181 0 47 (dk_at dksX1_init_2 4 rfl rfl)
theorem dX1_init_53 : decode cX1_init 53 = .ok (.aload_n 0, 1) := dk_42 (dk_at dksX1_init_2 7 rfl rfl)
theorem dX1_init_54 : decode cX1_init 54 = .ok (.new 51, 3) := dk_187 0 51 (dk_at dksX1_init_2 8 rfl rfl)
theorem dX1_init_57 : decode cX1_init 57 = .ok (.dup, 1) := dk_89 (dk_at dksX1_init_2 11 rfl rfl)
theorem dX1_init_58 : decode cX1_init 58 = .ok (.invokespecial 53, 3) := dk_183 0 53 (dk_at dksX1_init_2 12 rfl rfl)
theorem dX1_init_61 : decode cX1_init 61 = .ok (.putfield 54, 3) := dk_181 0 54 (dk_at dksX1_init_2 15 rfl rfl)
theorem dX1_init_64 : decode cX1_init 64 = .ok (.aload_n 0, 1) := dk_42 (dk_at dksX1_init_2 18 rfl rfl)
theorem dX1_init_65 : decode cX1_init 65 = .ok (.new 51, 3) := dk_187 0 51 (dk_at dksX1_init_2 19 rfl rfl)
theorem dX1_init_68 : decode cX1_init 68 = .ok (.dup, 1) := dk_89 (dk_at dksX1_init_2 22 rfl rfl)
theorem dX1_init_69 : decode cX1_init 69 = .ok (.invokespecial 53, 3) := dk_183 0 53 (dk_at dksX1_init_3 0 rfl rfl)
theorem dX1_init_72 : decode cX1_init 72 = .ok (.putfield 58, 3) := dk_181 0 58 (dk_at dksX1_init_3 3 rfl rfl)
theorem dX1_init_75 : decode cX1_init 75 = .ok (.aload_n 0, 1) := dk_42 (dk_at dksX1_init_3 6 rfl rfl)
theorem dX1_init_76 : decode cX1_init 76 = .ok (.new 51, 3) := dk_187 0 51 (dk_at dksX1_init_3 7 rfl rfl)
theorem dX1_init_79 : decode cX1_init 79 = .ok (.dup, 1) := dk_89 (dk_at dksX1_init_3 10 rfl rfl)
theorem dX1_init_80 : decode cX1_init 80 = .ok (.invokespecial 53, 3) := dk_183 0 53 (dk_at dksX1_init_3 11 rfl rfl)
theorem dX1_init_83 : decode cX1_init 83 = .ok (.putfield 61, 3) := dk_181 0 61 (dk_at dksX1_init_3 14 rfl rfl)
theorem dX1_init_86 : decode cX1_init 86 = .ok (.aload_n 0, 1) := dk_42 (dk_at dksX1_init_3 17 rfl rfl)
theorem dX1_init_87 : decode cX1_init 87 = .ok (.new 51, 3) := dk_187 0 51 (dk_at dksX1_init_3 18 rfl rfl)
theorem dX1_init_90 : decode cX1_init 90 = .ok (.dup, 1) := dk_89 (dk_at dksX1_init_3 21 rfl rfl)
theorem dX1_init_91 : decode cX1_init 91 = .ok (.invokespecial 53, 3) := dk_183 0 53 (dk_at dksX1_init_4 0 rfl rfl)
theorem dX1_init_94 : decode cX1_init 94 = .ok (.putfield 64, 3) := dk_181 0 64 (dk_at dksX1_init_4 3 rfl rfl)
theorem dX1_init_97 : decode cX1_init 97 = .ok (.aload_n 0, 1) := dk_42 (dk_at dksX1_init_4 6 rfl rfl)
theorem dX1_init_98 : decode cX1_init 98 = .ok (.sipush 1024, 3) := dk_17 4 0 (dk_at dksX1_init_4 7 rfl rfl)
theorem dX1_init_101 : decode cX1_init 101 = .ok (.newarray .int, 2) := dk_188_10 (dk_at dksX1_init_4 10 rfl rfl)
theorem dX1_init_103 : decode cX1_init 103 = .ok (.putfield 67, 3) := dk_181 0 67 (dk_at dksX1_init_4 12 rfl rfl)
theorem dX1_init_106 : decode cX1_init 106 = .ok (.aload_n 0, 1) := dk_42 (dk_at dksX1_init_4 15 rfl rfl)
theorem dX1_init_107 : decode cX1_init 107 = .ok (.sipush 768, 3) := dk_17 3 0 (dk_at dksX1_init_4 16 rfl rfl)
theorem dX1_init_110 : decode cX1_init 110 = .ok (.newarray .long, 2) := dk_188_11 (dk_at dksX1_init_4 19 rfl rfl)
theorem dX1_init_112 : decode cX1_init 112 = .ok (.putfield 70, 3) := dk_181 0 70 (dk_at dksX1_init_4 21 rfl rfl)
theorem dX1_init_115 : decode cX1_init 115 = .ok (.aload_n 0, 1) := dk_42 (dk_at dksX1_init_5 0 rfl rfl)
theorem dX1_init_116 : decode cX1_init 116 = .ok (.sipush 768, 3) := dk_17 3 0 (dk_at dksX1_init_5 1 rfl rfl)
theorem dX1_init_119 : decode cX1_init 119 = .ok (.newarray .int, 2) := dk_188_10 (dk_at dksX1_init_5 4 rfl rfl)
theorem dX1_init_121 : decode cX1_init 121 = .ok (.putfield 74, 3) := dk_181 0 74 (dk_at dksX1_init_5 6 rfl rfl)
theorem dX1_init_124 : decode cX1_init 124 = .ok (.aload_n 0, 1) := dk_42 (dk_at dksX1_init_5 9 rfl rfl)
theorem dX1_init_125 : decode cX1_init 125 = .ok (.sipush 2048, 3) := dk_17 8 0 (dk_at dksX1_init_5 10 rfl rfl)
theorem dX1_init_128 : decode cX1_init 128 = .ok (.newarray .byte, 2) := dk_188_8 (dk_at dksX1_init_5 13 rfl rfl)
theorem dX1_init_130 : decode cX1_init 130 = .ok (.putfield 77, 3) := dk_181 0 77 (dk_at dksX1_init_5 15 rfl rfl)
theorem dX1_init_133 : decode cX1_init 133 = .ok (.aload_n 0, 1) := dk_42 (dk_at dksX1_init_5 18 rfl rfl)
theorem dX1_init_134 : decode cX1_init 134 = .ok (.sipush 128, 3) := dk_17 0 128 (dk_at dksX1_init_5 19 rfl rfl)
theorem dX1_init_137 : decode cX1_init 137 = .ok (.newarray .byte, 2) := dk_188_8 (dk_at dksX1_init_5 22 rfl rfl)
theorem dX1_init_139 : decode cX1_init 139 = .ok (.putfield 80, 3) := dk_181 0 80 (dk_at dksX1_init_6 0 rfl rfl)
theorem dX1_init_142 : decode cX1_init 142 = .ok (.aload_n 0, 1) := dk_42 (dk_at dksX1_init_6 3 rfl rfl)
theorem dX1_init_143 : decode cX1_init 143 = .ok (.sipush 200, 3) := dk_17 0 200 (dk_at dksX1_init_6 4 rfl rfl)
theorem dX1_init_146 : decode cX1_init 146 = .ok (.newarray .byte, 2) := dk_188_8 (dk_at dksX1_init_6 7 rfl rfl)
theorem dX1_init_148 : decode cX1_init 148 = .ok (.putfield 83, 3) := dk_181 0 83 (dk_at dksX1_init_6 9 rfl rfl)
theorem dX1_init_151 : decode cX1_init 151 = .ok (.aload_n 0, 1) := dk_42 (dk_at dksX1_init_6 12 rfl rfl)
theorem dX1_init_152 : decode cX1_init 152 = .ok (.sipush 1024, 3) := dk_17 4 0 (dk_at dksX1_init_6 13 rfl rfl)
theorem dX1_init_155 : decode cX1_init 155 = .ok (.newarray .byte, 2) := dk_188_8 (dk_at dksX1_init_6 16 rfl rfl)
theorem dX1_init_157 : decode cX1_init 157 = .ok (.putfield 86, 3) := dk_181 0 86 (dk_at dksX1_init_6 18 rfl rfl)
theorem dX1_init_160 : decode cX1_init 160 = .ok (.iload_n 1, 1) := dk_27 (dk_at dksX1_init_6 21 rfl rfl)
theorem dX1_init_161 : decode cX1_init 161 = .ok (.bipush 24, 2) := dk_16 24 (dk_at dksX1_init_6 22 rfl rfl)
theorem dX1_init_163 : decode cX1_init 163 = .ok (.bipush 64, 2) := dk_16 64 (dk_at dksX1_init_7 0 rfl rfl)
theorem dX1_init_165 : decode cX1_init 165 = .ok (.invokestatic 89, 3) := dk_184 0 89 (dk_at dksX1_init_7 2 rfl rfl)
theorem dX1_init_168 : decode cX1_init 168 = .ok (.ifCond .eq 7, 3) := dk_153 0 7 (dk_at dksX1_init_7 5 rfl rfl)
theorem dX1_init_171 : decode cX1_init 171 = .ok (.iload_n 1, 1) := dk_27 (dk_at dksX1_init_7 8 rfl rfl)
theorem dX1_init_172 : decode cX1_init 172 = .ok (.goto 5, 3) := dk_167 0 5 (dk_at dksX1_init_7 9 rfl rfl)
theorem dX1_init_175 : decode cX1_init 175 = .ok (.bipush 32, 2) := dk_16 32 (dk_at dksX1_init_7 12 rfl rfl)
theorem dX1_init_177 : decode cX1_init 177 = .ok (.istore 4, 2) := dk_54 4 (dk_at dksX1_init_7 14 rfl rfl)
theorem dX1_init_179 : decode cX1_init 179 = .ok (.iload_n 2, 1) := dk_28 (dk_at dksX1_init_7 16 rfl rfl)
theorem dX1_init_180 : decode cX1_init 180 = .ok (.bipush 8, 2) := dk_16 8 (dk_at dksX1_init_7 17 rfl rfl)
theorem dX1_init_182 : decode cX1_init 182 = .ok (.bipush 32, 2) := dk_16 32 (dk_at dksX1_init_7 19 rfl rfl)
theorem dX1_init_184 : decode cX1_init 184 = .ok (.invokestatic 89, 3) := dk_184 0 89 (dk_at dksX1_init_7 21 rfl rfl)
theorem dX1_init_187 : decode cX1_init 187 = .ok (.ifCond .eq 7, 3) := dk_153 0 7 (dk_at dksX1_init_8 0 rfl rfl)
theorem dX1_init_190 : decode cX1_init 190 = .ok (.iload_n 2, 1) := dk_28 (dk_at dksX1_init_8 3 rfl rfl)
theorem dX1_init_191 : decode cX1_init 191 = .ok (.goto 5, 3) := dk_167 0 5 (dk_at dksX1_init_8 4 rfl rfl)
theorem dX1_init_194 : decode cX1_init 194 = .ok (.bipush 16, 2) := dk_16 16 (dk_at dksX1_init_8 7 rfl rfl)
theorem dX1_init_196 : decode cX1_init 196 = .ok (.istore 5, 2) := dk_54 5 (dk_at dksX1_init_8 9 rfl rfl)
theorem dX1_init_198 : decode cX1_init 198 = .ok (.aload_n 0, 1) := dk_42 (dk_at dksX1_init_8 11 rfl rfl)
theorem dX1_init_199 : decode cX1_init 199 = .ok (.new 93, 3) := dk_187 0 93 (dk_at dksX1_init_8 12 rfl rfl)
theorem dX1_init_202 : decode cX1_init 202 = .ok (.dup, 1) := dk_89 (dk_at dksX1_init_8 15 rfl rfl)
theorem dX1_init_203 : decode cX1_init 203 = .ok (.iload 4, 2) := dk_21 4 (dk_at dksX1_init_8 16 rfl rfl)
theorem dX1_init_205 : decode cX1_init 205 = .ok (.iload 5, 2) := dk_21 5 (dk_at dksX1_init_8 18 rfl rfl)
theorem dX1_init_207 : decode cX1_init 207 = .ok (.invokespecial 95, 3) := dk_183 0 95 (dk_at dksX1_init_8 20 rfl rfl)
theorem dX1_init_210 : decode cX1_init 210 = .ok (.putfield 98, 3) := dk_181 0 98 (dk_at dksX1_init_9 0 rfl rfl)
theorem dX1_init_213 : decode cX1_init 213 = .ok (.aload_n 0, 1) := dk_42 (dk_at dksX1_init_9 3 rfl rfl)
theorem dX1_init_214 : decode cX1_init 214 = .ok (.iload_n 3, 1) := dk_29 (dk_at dksX1_init_9 4 rfl rfl)
theorem dX1_init_215 : decode cX1_init 215 = .ok (.iconst 0, 1) := dk_3 (dk_at dksX1_init_9 5 rfl rfl)
theorem dX1_init_216 : decode cX1_init 216 = .ok (.iconst 4, 1) := dk_7 (dk_at dksX1_init_9 6 rfl rfl)
theorem dX1_init_217 : decode cX1_init 217 = .ok (.invokestatic 89, 3) := dk_184 0 89 (dk_at dksX1_init_9 7 rfl rfl)
theorem dX1_init_220 : decode cX1_init 220 = .ok (.ifCond .eq 7, 3) := dk_153 0 7 (dk_at dksX1_init_9 10 rfl rfl)
theorem dX1_init_223 : decode cX1_init 223 = .ok (.iload_n 3, 1) := dk_29 (dk_at dksX1_init_9 13 rfl rfl)
theorem dX1_init_224 : decode cX1_init 224 = .ok (.goto 4, 3) := dk_167 0 4 (dk_at dksX1_init_9 14 rfl rfl)
theorem dX1_init_227 : decode cX1_init 227 = .ok (.iconst 0, 1) := dk_3 (dk_at dksX1_init_9 17 rfl rfl)
theorem dX1_init_228 : decode cX1_init 228 = .ok (.putfield 102, 3) := dk_181 0 102 (dk_at dksX1_init_9 18 rfl rfl)
theorem dX1_init_231 : decode cX1_init 231 = .ok (.aload_n 0, 1) := dk_42 (dk_at dksX1_init_9 21 rfl rfl)
theorem dX1_init_232 : decode cX1_init 232 = .ok (.new 106, 3) := dk_187 0 106 (dk_at dksX1_init_10 0 rfl rfl)
theorem dX1_init_235 : decode cX1_init 235 = .ok (.dup, 1) := dk_89 (dk_at dksX1_init_10 3 rfl rfl)
theorem dX1_init_236 : decode cX1_init 236 = .ok (.aload_n 0, 1) := dk_42 (dk_at dksX1_init_10 4 rfl rfl)
theorem dX1_init_237 : decode cX1_init 237 = .ok (.getfield 98, 3) := dk_180 0 98 (dk_at dksX1_init_10 5 rfl rfl)
theorem dX1_init_240 : decode cX1_init 240 = .ok (.aload_n 0, 1) := dk_42 (dk_at dksX1_init_10 8 rfl rfl)
theorem dX1_init_241 : decode cX1_init 241 = .ok (.getfield 102, 3) := dk_180 0 102 (dk_at dksX1_init_10 9 rfl rfl)
theorem dX1_init_244 : decode cX1_init 244 = .ok (.invokespecial 108, 3) := dk_183 0 108 (dk_at dksX1_init_10 12 rfl rfl)
theorem dX1_init_247 : decode cX1_init 247 = .ok (.putfield 111, 3) := dk_181 0 111 (dk_at dksX1_init_10 15 rfl rfl)
theorem dX1_init_250 : decode cX1_init 250 = .ok (.aload_n 0, 1) := dk_42 (dk_at dksX1_init_10 18 rfl rfl)
theorem dX1_init_251 : decode cX1_init 251 = .ok (.new 106, 3) := dk_187 0 106 (dk_at dksX1_init_10 19 rfl rfl)
theorem dX1_init_254 : decode cX1_init 254 = .ok (.dup, 1) := dk_89 (dk_at dksX1_init_10 22 rfl rfl)
theorem dX1_init_255 : decode cX1_init 255 = .ok (.aload_n 0, 1) := dk_42 (dk_at dksX1_init_10 23 rfl rfl)
theorem dX1_init_256 : decode cX1_init 256 = .ok (.getfield 98, 3) := dk_180 0 98 (dk_at dksX1_init_11 0 rfl rfl)
theorem dX1_init_259 : decode cX1_init 259 = .ok (.aload_n 0, 1) := dk_42 (dk_at dksX1_init_11 3 rfl rfl)
theorem dX1_init_260 : decode cX1_init 260 = .ok (.getfield 102, 3) := dk_180 0 102 (dk_at dksX1_init_11 4 rfl rfl)
theorem dX1_init_263 : decode cX1_init 263 = .ok (.invokespecial 108, 3) := dk_183 0 108 (dk_at dksX1_init_11 7 rfl rfl)
theorem dX1_init_266 : decode cX1_init 266 = .ok (.putfield 115, 3) := dk_181 0 115 (dk_at dksX1_init_11 10 rfl rfl)
theorem dX1_init_269 : decode cX1_init 269 = .ok (.aload_n 0, 1) := dk_42 (dk_at dksX1_init_11 13 rfl rfl)
theorem dX1_init_270 : decode cX1_init 270 = .ok (.iload 4, 2) := dk_21 4 (dk_at dksX1_init_11 14 rfl rfl)
theorem dX1_init_272 : decode cX1_init 272 = .ok (.bipush 6, 2) := dk_16 6 (dk_at dksX1_init_11 16 rfl rfl)
theorem dX1_init_274 : decode cX1_init 274 = .ok (.isub, 1) := dk_100 (dk_at dksX1_init_11 18 rfl rfl)
theorem dX1_init_275 : decode cX1_init 275 = .ok (.newarray .int, 2) := dk_188_10 (dk_at dksX1_init_11 19 rfl rfl)
theorem dX1_init_277 : decode cX1_init 277 = .ok (.putfield 118, 3) := dk_181 0 118 (dk_at dksX1_init_11 21 rfl rfl)
theorem dX1_init_280 : decode cX1_init 280 = .ok (.aload_n 0, 1) := dk_42 (dk_at dksX1_init_12 0 rfl rfl)
theorem dX1_init_281 : decode cX1_init 281 = .ok (.iload 4, 2) := dk_21 4 (dk_at dksX1_init_12 1 rfl rfl)
theorem dX1_init_283 : decode cX1_init 283 = .ok (.bipush 18, 2) := dk_16 18 (dk_at dksX1_init_12 3 rfl rfl)
theorem dX1_init_285 : decode cX1_init 285 = .ok (.isub, 1) := dk_100 (dk_at dksX1_init_12 5 rfl rfl)
theorem dX1_init_286 : decode cX1_init 286 = .ok (.aload_n 0, 1) := dk_42 (dk_at dksX1_init_12 6 rfl rfl)
theorem dX1_init_287 : decode cX1_init 287 = .ok (.getfield 102, 3) := dk_180 0 102 (dk_at dksX1_init_12 7 rfl rfl)
theorem dX1_init_290 : decode cX1_init 290 = .ok (.isub, 1) := dk_100 (dk_at dksX1_init_12 10 rfl rfl)
theorem dX1_init_291 : decode cX1_init 291 = .ok (.iload 5, 2) := dk_21 5 (dk_at dksX1_init_12 11 rfl rfl)
theorem dX1_init_293 : decode cX1_init 293 = .ok (.iconst 2, 1) := dk_5 (dk_at dksX1_init_12 13 rfl rfl)
theorem dX1_init_294 : decode cX1_init 294 = .ok (.isub, 1) := dk_100 (dk_at dksX1_init_12 14 rfl rfl)
theorem dX1_init_295 : decode cX1_init 295 = .ok (.sipush 128, 3) := dk_17 0 128 (dk_at dksX1_init_12 15 rfl rfl)
theorem dX1_init_298 : decode cX1_init 298 = .ok (.imul, 1) := dk_104 (dk_at dksX1_init_12 18 rfl rfl)
theorem dX1_init_299 : decode cX1_init 299 = .ok (.sipush 256, 3) := dk_17 1 0 (dk_at dksX1_init_12 19 rfl rfl)
theorem dX1_init_302 : decode cX1_init 302 = .ok (.isub, 1) := dk_100 (dk_at dksX1_init_12 22 rfl rfl)
theorem dX1_init_303 : decode cX1_init 303 = .ok (.imul, 1) := dk_104 (dk_at dksX1_init_12 23 rfl rfl)
theorem dX1_init_304 : decode cX1_init 304 = .ok (.putfield 121, 3) := dk_181 0 121 (dk_at dksX1_init_13 0 rfl rfl)
theorem dX1_init_307 : decode cX1_init 307 = .ok (.aload_n 0, 1) := dk_42 (dk_at dksX1_init_13 3 rfl rfl)
theorem dX1_init_308 : decode cX1_init 308 = .ok (.getfield 111, 3) := dk_180 0 111 (dk_at dksX1_init_13 4 rfl rfl)
theorem dX1_init_311 : decode cX1_init 311 = .ok (.invokevirtual 124, 3) := dk_182 0 124 (dk_at dksX1_init_13 7 rfl rfl)
theorem dX1_init_314 : decode cX1_init 314 = .ok (.aload_n 0, 1) := dk_42 (dk_at dksX1_init_13 10 rfl rfl)
theorem dX1_init_315 : decode cX1_init 315 = .ok (.invokevirtual 127, 3) := dk_182 0 127 (dk_at dksX1_init_13 11 rfl rfl)
theorem dX1_init_318 : decode cX1_init 318 = .ok (.return_, 1) := dk_177 (dk_at dksX1_init_13 14 rfl rfl)
abbrev cX1_isIn : ByteArray := prog_1_method_1_code
def yX1_isIn : MethodName := ⟨RX1, "isIn", "(III)Z"⟩
def dkwX1_isIn_0 : List UInt8 := [26, 27, 161, 0, 12, 26, 28, 163, 0, 7, 4, 167, 0, 4, 3, 172]
abbrev dktX1_isIn_0 : List UInt8 := dkwX1_isIn_0 ++ []
theorem dksX1_isIn_0 : cX1_isIn.data.toList.drop 0 = dktX1_isIn_0 := by decide +kernel
theorem dX1_isIn_0 : decode cX1_isIn 0 = .ok (.iload_n 0, 1) := dk_26 (dk_at dksX1_isIn_0 0 rfl rfl)
theorem dX1_isIn_1 : decode cX1_isIn 1 = .ok (.iload_n 1, 1) := dk_27 (dk_at dksX1_isIn_0 1 rfl rfl)
theorem dX1_isIn_2 : decode cX1_isIn 2 = .ok (.if_icmp .lt 12, 3) := dk_161 0 12 (dk_at dksX1_isIn_0 2 rfl rfl)
theorem dX1_isIn_5 : decode cX1_isIn 5 = .ok (.iload_n 0, 1) := dk_26 (dk_at dksX1_isIn_0 5 rfl rfl)
theorem dX1_isIn_6 : decode cX1_isIn 6 = .ok (.iload_n 2, 1) := dk_28 (dk_at dksX1_isIn_0 6 rfl rfl)
theorem dX1_isIn_7 : decode cX1_isIn 7 = .ok (.if_icmp .gt 7, 3) := dk_163 0 7 (dk_at dksX1_isIn_0 7 rfl rfl)
theorem dX1_isIn_10 : decode cX1_isIn 10 = .ok (.iconst 1, 1) := dk_4 (dk_at dksX1_isIn_0 10 rfl rfl)
theorem dX1_isIn_11 : decode cX1_isIn 11 = .ok (.goto 4, 3) := dk_167 0 4 (dk_at dksX1_isIn_0 11 rfl rfl)
theorem dX1_isIn_14 : decode cX1_isIn 14 = .ok (.iconst 0, 1) := dk_3 (dk_at dksX1_isIn_0 14 rfl rfl)
theorem dX1_isIn_15 : decode cX1_isIn 15 = .ok (.ireturn, 1) := dk_172 (dk_at dksX1_isIn_0 15 rfl rfl)
abbrev cX1_eights : ByteArray := prog_1_method_2_code
def yX1_eights : MethodName := ⟨RX1, "eights", "(I)I"⟩
def dkwX1_eights_0 : List UInt8 := [26, 16, 7, 96, 16, 248, 126, 172]
abbrev dktX1_eights_0 : List UInt8 := dkwX1_eights_0 ++ []
theorem dksX1_eights_0 : cX1_eights.data.toList.drop 0 = dktX1_eights_0 := by decide +kernel
theorem dX1_eights_0 : decode cX1_eights 0 = .ok (.iload_n 0, 1) := dk_26 (dk_at dksX1_eights_0 0 rfl rfl)
theorem dX1_eights_1 : decode cX1_eights 1 = .ok (.bipush 7, 2) := dk_16 7 (dk_at dksX1_eights_0 1 rfl rfl)
theorem dX1_eights_3 : decode cX1_eights 3 = .ok (.iadd, 1) := dk_96 (dk_at dksX1_eights_0 3 rfl rfl)
theorem dX1_eights_4 : decode cX1_eights 4 = .ok (.bipush (-8), 2) := dk_16 248 (dk_at dksX1_eights_0 4 rfl rfl)
theorem dX1_eights_6 : decode cX1_eights 6 = .ok (.iand, 1) := dk_126 (dk_at dksX1_eights_0 6 rfl rfl)
theorem dX1_eights_7 : decode cX1_eights 7 = .ok (.ireturn, 1) := dk_172 (dk_at dksX1_eights_0 7 rfl rfl)
abbrev cX1_putInt : ByteArray := prog_1_method_5_code
def yX1_putInt : MethodName := ⟨RX1, "putInt", "([BII)V"⟩
def dkwX1_putInt_1 : List UInt8 := [167, 255, 236, 177]
abbrev dktX1_putInt_1 : List UInt8 := dkwX1_putInt_1 ++ []
def dkwX1_putInt_0 : List UInt8 := [3, 62, 29, 7, 162, 0, 21, 42, 27, 29, 96, 28, 16, 8, 29, 104, 124, 145, 84, 132, 3, 1]
abbrev dktX1_putInt_0 : List UInt8 := dkwX1_putInt_0 ++ dktX1_putInt_1
theorem dksX1_putInt_0 : cX1_putInt.data.toList.drop 0 = dktX1_putInt_0 := by decide +kernel
theorem dksX1_putInt_1 : cX1_putInt.data.toList.drop 22 = dktX1_putInt_1 := dk_seg dksX1_putInt_0 22 rfl rfl
theorem dX1_putInt_0 : decode cX1_putInt 0 = .ok (.iconst 0, 1) := dk_3 (dk_at dksX1_putInt_0 0 rfl rfl)
theorem dX1_putInt_1 : decode cX1_putInt 1 = .ok (.istore_n 3, 1) := dk_62 (dk_at dksX1_putInt_0 1 rfl rfl)
theorem dX1_putInt_2 : decode cX1_putInt 2 = .ok (.iload_n 3, 1) := dk_29 (dk_at dksX1_putInt_0 2 rfl rfl)
theorem dX1_putInt_3 : decode cX1_putInt 3 = .ok (.iconst 4, 1) := dk_7 (dk_at dksX1_putInt_0 3 rfl rfl)
theorem dX1_putInt_4 : decode cX1_putInt 4 = .ok (.if_icmp .ge 21, 3) := dk_162 0 21 (dk_at dksX1_putInt_0 4 rfl rfl)
theorem dX1_putInt_7 : decode cX1_putInt 7 = .ok (.aload_n 0, 1) := dk_42 (dk_at dksX1_putInt_0 7 rfl rfl)
theorem dX1_putInt_8 : decode cX1_putInt 8 = .ok (.iload_n 1, 1) := dk_27 (dk_at dksX1_putInt_0 8 rfl rfl)
theorem dX1_putInt_9 : decode cX1_putInt 9 = .ok (.iload_n 3, 1) := dk_29 (dk_at dksX1_putInt_0 9 rfl rfl)
theorem dX1_putInt_10 : decode cX1_putInt 10 = .ok (.iadd, 1) := dk_96 (dk_at dksX1_putInt_0 10 rfl rfl)
theorem dX1_putInt_11 : decode cX1_putInt 11 = .ok (.iload_n 2, 1) := dk_28 (dk_at dksX1_putInt_0 11 rfl rfl)
theorem dX1_putInt_12 : decode cX1_putInt 12 = .ok (.bipush 8, 2) := dk_16 8 (dk_at dksX1_putInt_0 12 rfl rfl)
theorem dX1_putInt_14 : decode cX1_putInt 14 = .ok (.iload_n 3, 1) := dk_29 (dk_at dksX1_putInt_0 14 rfl rfl)
theorem dX1_putInt_15 : decode cX1_putInt 15 = .ok (.imul, 1) := dk_104 (dk_at dksX1_putInt_0 15 rfl rfl)
theorem dX1_putInt_16 : decode cX1_putInt 16 = .ok (.iushr, 1) := dk_124 (dk_at dksX1_putInt_0 16 rfl rfl)
theorem dX1_putInt_17 : decode cX1_putInt 17 = .ok (.i2b, 1) := dk_145 (dk_at dksX1_putInt_0 17 rfl rfl)
theorem dX1_putInt_18 : decode cX1_putInt 18 = .ok (.bastore, 1) := dk_84 (dk_at dksX1_putInt_0 18 rfl rfl)
theorem dX1_putInt_19 : decode cX1_putInt 19 = .ok (.iinc 3 1, 3) := dk_132 3 1 (dk_at dksX1_putInt_0 19 rfl rfl)
theorem dX1_putInt_22 : decode cX1_putInt 22 = .ok (.goto (-20), 3) := dk_167 255 236 (dk_at dksX1_putInt_1 0 rfl rfl)
theorem dX1_putInt_25 : decode cX1_putInt 25 = .ok (.return_, 1) := dk_177 (dk_at dksX1_putInt_1 3 rfl rfl)
abbrev cX1_check : ByteArray := prog_1_method_4_code
def yX1_check : MethodName := ⟨RX1, "check", "(I[BII)I"⟩
def dkwX1_check_1 : List UInt8 := [43, 21, 5, 51, 130, 17, 0, 255, 126, 46, 130, 54, 4, 132, 5, 1, 167, 255, 222, 21, 4, 172]
abbrev dktX1_check_1 : List UInt8 := dkwX1_check_1 ++ []
def dkwX1_check_0 : List UInt8 := [26, 54, 4, 28, 54, 5, 21, 5, 28, 29, 96, 162, 0, 32, 21, 4, 16, 8, 124, 178, 0, 2, 21, 4]
abbrev dktX1_check_0 : List UInt8 := dkwX1_check_0 ++ dktX1_check_1
theorem dksX1_check_0 : cX1_check.data.toList.drop 0 = dktX1_check_0 := by decide +kernel
theorem dksX1_check_1 : cX1_check.data.toList.drop 24 = dktX1_check_1 := dk_seg dksX1_check_0 24 rfl rfl
theorem dX1_check_0 : decode cX1_check 0 = .ok (.iload_n 0, 1) := dk_26 (dk_at dksX1_check_0 0 rfl rfl)
theorem dX1_check_1 : decode cX1_check 1 = .ok (.istore 4, 2) := dk_54 4 (dk_at dksX1_check_0 1 rfl rfl)
theorem dX1_check_3 : decode cX1_check 3 = .ok (.iload_n 2, 1) := dk_28 (dk_at dksX1_check_0 3 rfl rfl)
theorem dX1_check_4 : decode cX1_check 4 = .ok (.istore 5, 2) := dk_54 5 (dk_at dksX1_check_0 4 rfl rfl)
theorem dX1_check_6 : decode cX1_check 6 = .ok (.iload 5, 2) := dk_21 5 (dk_at dksX1_check_0 6 rfl rfl)
theorem dX1_check_8 : decode cX1_check 8 = .ok (.iload_n 2, 1) := dk_28 (dk_at dksX1_check_0 8 rfl rfl)
theorem dX1_check_9 : decode cX1_check 9 = .ok (.iload_n 3, 1) := dk_29 (dk_at dksX1_check_0 9 rfl rfl)
theorem dX1_check_10 : decode cX1_check 10 = .ok (.iadd, 1) := dk_96 (dk_at dksX1_check_0 10 rfl rfl)
theorem dX1_check_11 : decode cX1_check 11 = .ok (.if_icmp .ge 32, 3) := dk_162 0 32 (dk_at dksX1_check_0 11 rfl rfl)
theorem dX1_check_14 : decode cX1_check 14 = .ok (.iload 4, 2) := dk_21 4 (dk_at dksX1_check_0 14 rfl rfl)
theorem dX1_check_16 : decode cX1_check 16 = .ok (.bipush 8, 2) := dk_16 8 (dk_at dksX1_check_0 16 rfl rfl)
theorem dX1_check_18 : decode cX1_check 18 = .ok (.iushr, 1) := dk_124 (dk_at dksX1_check_0 18 rfl rfl)
theorem dX1_check_19 : decode cX1_check 19 = .ok (.getstatic 2, 3) := dk_178 0 2 (dk_at dksX1_check_0 19 rfl rfl)
theorem dX1_check_22 : decode cX1_check 22 = .ok (.iload 4, 2) := dk_21 4 (dk_at dksX1_check_0 22 rfl rfl)
theorem dX1_check_24 : decode cX1_check 24 = .ok (.aload_n 1, 1) := dk_43 (dk_at dksX1_check_1 0 rfl rfl)
theorem dX1_check_25 : decode cX1_check 25 = .ok (.iload 5, 2) := dk_21 5 (dk_at dksX1_check_1 1 rfl rfl)
theorem dX1_check_27 : decode cX1_check 27 = .ok (.baload, 1) := dk_51 (dk_at dksX1_check_1 3 rfl rfl)
theorem dX1_check_28 : decode cX1_check 28 = .ok (.ixor, 1) := dk_130 (dk_at dksX1_check_1 4 rfl rfl)
theorem dX1_check_29 : decode cX1_check 29 = .ok (.sipush 255, 3) := dk_17 0 255 (dk_at dksX1_check_1 5 rfl rfl)
theorem dX1_check_32 : decode cX1_check 32 = .ok (.iand, 1) := dk_126 (dk_at dksX1_check_1 8 rfl rfl)
theorem dX1_check_33 : decode cX1_check 33 = .ok (.iaload, 1) := dk_46 (dk_at dksX1_check_1 9 rfl rfl)
theorem dX1_check_34 : decode cX1_check 34 = .ok (.ixor, 1) := dk_130 (dk_at dksX1_check_1 10 rfl rfl)
theorem dX1_check_35 : decode cX1_check 35 = .ok (.istore 4, 2) := dk_54 4 (dk_at dksX1_check_1 11 rfl rfl)
theorem dX1_check_37 : decode cX1_check 37 = .ok (.iinc 5 1, 3) := dk_132 5 1 (dk_at dksX1_check_1 13 rfl rfl)
theorem dX1_check_40 : decode cX1_check 40 = .ok (.goto (-34), 3) := dk_167 255 222 (dk_at dksX1_check_1 16 rfl rfl)
theorem dX1_check_43 : decode cX1_check 43 = .ok (.iload 4, 2) := dk_21 4 (dk_at dksX1_check_1 19 rfl rfl)
theorem dX1_check_45 : decode cX1_check 45 = .ok (.ireturn, 1) := dk_172 (dk_at dksX1_check_1 21 rfl rfl)
abbrev cX1_putLong : ByteArray := prog_1_method_7_code
def yX1_putLong : MethodName := ⟨RX1, "putLong", "([BIJ)V"⟩
def dkwX1_putLong_0 : List UInt8 := [42, 27, 32, 136, 184, 0, 8, 42, 27, 7, 96, 32, 16, 32, 125, 136, 184, 0, 8, 177]
abbrev dktX1_putLong_0 : List UInt8 := dkwX1_putLong_0 ++ []
theorem dksX1_putLong_0 : cX1_putLong.data.toList.drop 0 = dktX1_putLong_0 := by decide +kernel
theorem dX1_putLong_0 : decode cX1_putLong 0 = .ok (.aload_n 0, 1) := dk_42 (dk_at dksX1_putLong_0 0 rfl rfl)
theorem dX1_putLong_1 : decode cX1_putLong 1 = .ok (.iload_n 1, 1) := dk_27 (dk_at dksX1_putLong_0 1 rfl rfl)
theorem dX1_putLong_2 : decode cX1_putLong 2 = .ok (.lload_n 2, 1) := dk_32 (dk_at dksX1_putLong_0 2 rfl rfl)
theorem dX1_putLong_3 : decode cX1_putLong 3 = .ok (.l2i, 1) := dk_136 (dk_at dksX1_putLong_0 3 rfl rfl)
theorem dX1_putLong_4 : decode cX1_putLong 4 = .ok (.invokestatic 8, 3) := dk_184 0 8 (dk_at dksX1_putLong_0 4 rfl rfl)
theorem dX1_putLong_7 : decode cX1_putLong 7 = .ok (.aload_n 0, 1) := dk_42 (dk_at dksX1_putLong_0 7 rfl rfl)
theorem dX1_putLong_8 : decode cX1_putLong 8 = .ok (.iload_n 1, 1) := dk_27 (dk_at dksX1_putLong_0 8 rfl rfl)
theorem dX1_putLong_9 : decode cX1_putLong 9 = .ok (.iconst 4, 1) := dk_7 (dk_at dksX1_putLong_0 9 rfl rfl)
theorem dX1_putLong_10 : decode cX1_putLong 10 = .ok (.iadd, 1) := dk_96 (dk_at dksX1_putLong_0 10 rfl rfl)
theorem dX1_putLong_11 : decode cX1_putLong 11 = .ok (.lload_n 2, 1) := dk_32 (dk_at dksX1_putLong_0 11 rfl rfl)
theorem dX1_putLong_12 : decode cX1_putLong 12 = .ok (.bipush 32, 2) := dk_16 32 (dk_at dksX1_putLong_0 12 rfl rfl)
theorem dX1_putLong_14 : decode cX1_putLong 14 = .ok (.lushr, 1) := dk_125 (dk_at dksX1_putLong_0 14 rfl rfl)
theorem dX1_putLong_15 : decode cX1_putLong 15 = .ok (.l2i, 1) := dk_136 (dk_at dksX1_putLong_0 15 rfl rfl)
theorem dX1_putLong_16 : decode cX1_putLong 16 = .ok (.invokestatic 8, 3) := dk_184 0 8 (dk_at dksX1_putLong_0 16 rfl rfl)
theorem dX1_putLong_19 : decode cX1_putLong 19 = .ok (.return_, 1) := dk_177 (dk_at dksX1_putLong_0 19 rfl rfl)
abbrev cX1_getInt : ByteArray := prog_1_method_6_code
def yX1_getInt : MethodName := ⟨RX1, "getInt", "([BI)I"⟩
def dkwX1_getInt_1 : List UInt8 := [132, 3, 255, 167, 255, 234, 28, 172]
abbrev dktX1_getInt_1 : List UInt8 := dkwX1_getInt_1 ++ []
def dkwX1_getInt_0 : List UInt8 := [3, 61, 6, 62, 29, 155, 0, 24, 28, 16, 8, 120, 42, 27, 29, 96, 51, 17, 0, 255, 126, 128, 61]
abbrev dktX1_getInt_0 : List UInt8 := dkwX1_getInt_0 ++ dktX1_getInt_1
theorem dksX1_getInt_0 : cX1_getInt.data.toList.drop 0 = dktX1_getInt_0 := by decide +kernel
theorem dksX1_getInt_1 : cX1_getInt.data.toList.drop 23 = dktX1_getInt_1 := dk_seg dksX1_getInt_0 23 rfl rfl
theorem dX1_getInt_0 : decode cX1_getInt 0 = .ok (.iconst 0, 1) := dk_3 (dk_at dksX1_getInt_0 0 rfl rfl)
theorem dX1_getInt_1 : decode cX1_getInt 1 = .ok (.istore_n 2, 1) := dk_61 (dk_at dksX1_getInt_0 1 rfl rfl)
theorem dX1_getInt_2 : decode cX1_getInt 2 = .ok (.iconst 3, 1) := dk_6 (dk_at dksX1_getInt_0 2 rfl rfl)
theorem dX1_getInt_3 : decode cX1_getInt 3 = .ok (.istore_n 3, 1) := dk_62 (dk_at dksX1_getInt_0 3 rfl rfl)
theorem dX1_getInt_4 : decode cX1_getInt 4 = .ok (.iload_n 3, 1) := dk_29 (dk_at dksX1_getInt_0 4 rfl rfl)
theorem dX1_getInt_5 : decode cX1_getInt 5 = .ok (.ifCond .lt 24, 3) := dk_155 0 24 (dk_at dksX1_getInt_0 5 rfl rfl)
theorem dX1_getInt_8 : decode cX1_getInt 8 = .ok (.iload_n 2, 1) := dk_28 (dk_at dksX1_getInt_0 8 rfl rfl)
theorem dX1_getInt_9 : decode cX1_getInt 9 = .ok (.bipush 8, 2) := dk_16 8 (dk_at dksX1_getInt_0 9 rfl rfl)
theorem dX1_getInt_11 : decode cX1_getInt 11 = .ok (.ishl, 1) := dk_120 (dk_at dksX1_getInt_0 11 rfl rfl)
theorem dX1_getInt_12 : decode cX1_getInt 12 = .ok (.aload_n 0, 1) := dk_42 (dk_at dksX1_getInt_0 12 rfl rfl)
theorem dX1_getInt_13 : decode cX1_getInt 13 = .ok (.iload_n 1, 1) := dk_27 (dk_at dksX1_getInt_0 13 rfl rfl)
theorem dX1_getInt_14 : decode cX1_getInt 14 = .ok (.iload_n 3, 1) := dk_29 (dk_at dksX1_getInt_0 14 rfl rfl)
theorem dX1_getInt_15 : decode cX1_getInt 15 = .ok (.iadd, 1) := dk_96 (dk_at dksX1_getInt_0 15 rfl rfl)
theorem dX1_getInt_16 : decode cX1_getInt 16 = .ok (.baload, 1) := dk_51 (dk_at dksX1_getInt_0 16 rfl rfl)
theorem dX1_getInt_17 : decode cX1_getInt 17 = .ok (.sipush 255, 3) := dk_17 0 255 (dk_at dksX1_getInt_0 17 rfl rfl)
theorem dX1_getInt_20 : decode cX1_getInt 20 = .ok (.iand, 1) := dk_126 (dk_at dksX1_getInt_0 20 rfl rfl)
theorem dX1_getInt_21 : decode cX1_getInt 21 = .ok (.ior, 1) := dk_128 (dk_at dksX1_getInt_0 21 rfl rfl)
theorem dX1_getInt_22 : decode cX1_getInt 22 = .ok (.istore_n 2, 1) := dk_61 (dk_at dksX1_getInt_0 22 rfl rfl)
theorem dX1_getInt_23 : decode cX1_getInt 23 = .ok (.iinc 3 (-1), 3) := dk_132 3 255 (dk_at dksX1_getInt_1 0 rfl rfl)
theorem dX1_getInt_26 : decode cX1_getInt 26 = .ok (.goto (-22), 3) := dk_167 255 234 (dk_at dksX1_getInt_1 3 rfl rfl)
theorem dX1_getInt_29 : decode cX1_getInt 29 = .ok (.iload_n 2, 1) := dk_28 (dk_at dksX1_getInt_1 6 rfl rfl)
theorem dX1_getInt_30 : decode cX1_getInt 30 = .ok (.ireturn, 1) := dk_172 (dk_at dksX1_getInt_1 7 rfl rfl)
abbrev cX1_keyOf : ByteArray := prog_1_method_9_code
def yX1_keyOf : MethodName := ⟨RX1, "keyOf", "(II)J"⟩
def dkwX1_keyOf_0 : List UInt8 := [20, 0, 18, 26, 133, 105, 27, 133, 97, 173]
abbrev dktX1_keyOf_0 : List UInt8 := dkwX1_keyOf_0 ++ []
theorem dksX1_keyOf_0 : cX1_keyOf.data.toList.drop 0 = dktX1_keyOf_0 := by decide +kernel
theorem dX1_keyOf_0 : decode cX1_keyOf 0 = .ok (.ldc2_w 18, 3) := dk_20 0 18 (dk_at dksX1_keyOf_0 0 rfl rfl)
theorem dX1_keyOf_3 : decode cX1_keyOf 3 = .ok (.iload_n 0, 1) := dk_26 (dk_at dksX1_keyOf_0 3 rfl rfl)
theorem dX1_keyOf_4 : decode cX1_keyOf 4 = .ok (.i2l, 1) := dk_133 (dk_at dksX1_keyOf_0 4 rfl rfl)
theorem dX1_keyOf_5 : decode cX1_keyOf 5 = .ok (.lmul, 1) := dk_105 (dk_at dksX1_keyOf_0 5 rfl rfl)
theorem dX1_keyOf_6 : decode cX1_keyOf 6 = .ok (.iload_n 1, 1) := dk_27 (dk_at dksX1_keyOf_0 6 rfl rfl)
theorem dX1_keyOf_7 : decode cX1_keyOf 7 = .ok (.i2l, 1) := dk_133 (dk_at dksX1_keyOf_0 7 rfl rfl)
theorem dX1_keyOf_8 : decode cX1_keyOf 8 = .ok (.ladd, 1) := dk_97 (dk_at dksX1_keyOf_0 8 rfl rfl)
theorem dX1_keyOf_9 : decode cX1_keyOf 9 = .ok (.lreturn, 1) := dk_173 (dk_at dksX1_keyOf_0 9 rfl rfl)
abbrev cX1_count : ByteArray := prog_1_method_12_code
def yX1_count : MethodName := ⟨RX1, "count", "()V"⟩
def dkwX1_count_4 : List UInt8 := [167, 255, 185, 177]
abbrev dktX1_count_4 : List UInt8 := dkwX1_count_4 ++ []
def dkwX1_count_3 : List UInt8 := [154, 0, 7, 4, 167, 0, 4, 3, 96, 181, 0, 133, 42, 180, 0, 111, 180, 0, 136, 182, 0, 153, 60]
abbrev dktX1_count_3 : List UInt8 := dkwX1_count_3 ++ dktX1_count_4
def dkwX1_count_2 : List UInt8 := [181, 0, 130, 42, 89, 180, 0, 133, 42, 180, 0, 111, 180, 0, 136, 180, 0, 149, 20, 0, 18, 113, 9, 148]
abbrev dktX1_count_2 : List UInt8 := dkwX1_count_2 ++ dktX1_count_3
def dkwX1_count_1 : List UInt8 := [153, 0, 73, 42, 89, 180, 0, 130, 42, 180, 0, 111, 180, 0, 136, 180, 0, 146, 17, 0, 192, 96, 96]
abbrev dktX1_count_1 : List UInt8 := dkwX1_count_1 ++ dktX1_count_2
def dkwX1_count_0 : List UInt8 := [42, 3, 181, 0, 130, 42, 3, 181, 0, 133, 42, 180, 0, 111, 180, 0, 136, 9, 9, 182, 0, 140, 60, 27]
abbrev dktX1_count_0 : List UInt8 := dkwX1_count_0 ++ dktX1_count_1
theorem dksX1_count_0 : cX1_count.data.toList.drop 0 = dktX1_count_0 := by decide +kernel
theorem dksX1_count_1 : cX1_count.data.toList.drop 24 = dktX1_count_1 := dk_seg dksX1_count_0 24 rfl rfl
theorem dksX1_count_2 : cX1_count.data.toList.drop 47 = dktX1_count_2 := dk_seg dksX1_count_1 23 rfl rfl
theorem dksX1_count_3 : cX1_count.data.toList.drop 71 = dktX1_count_3 := dk_seg dksX1_count_2 24 rfl rfl
theorem dksX1_count_4 : cX1_count.data.toList.drop 94 = dktX1_count_4 := dk_seg dksX1_count_3 23 rfl rfl
theorem dX1_count_0 : decode cX1_count 0 = .ok (.aload_n 0, 1) := dk_42 (dk_at dksX1_count_0 0 rfl rfl)
theorem dX1_count_1 : decode cX1_count 1 = .ok (.iconst 0, 1) := dk_3 (dk_at dksX1_count_0 1 rfl rfl)
theorem dX1_count_2 : decode cX1_count 2 = .ok (.putfield 130, 3) := dk_181 0 130 (dk_at dksX1_count_0 2 rfl rfl)
theorem dX1_count_5 : decode cX1_count 5 = .ok (.aload_n 0, 1) := dk_42 (dk_at dksX1_count_0 5 rfl rfl)
theorem dX1_count_6 : decode cX1_count 6 = .ok (.iconst 0, 1) := dk_3 (dk_at dksX1_count_0 6 rfl rfl)
theorem dX1_count_7 : decode cX1_count 7 = .ok (.putfield 133, 3) := dk_181 0 133 (dk_at dksX1_count_0 7 rfl rfl)
theorem dX1_count_10 : decode cX1_count 10 = .ok (.aload_n 0, 1) := dk_42 (dk_at dksX1_count_0 10 rfl rfl)
theorem dX1_count_11 : decode cX1_count 11 = .ok (.getfield 111, 3) := dk_180 0 111 (dk_at dksX1_count_0 11 rfl rfl)
theorem dX1_count_14 : decode cX1_count 14 = .ok (.getfield 136, 3) := dk_180 0 136 (dk_at dksX1_count_0 14 rfl rfl)
theorem dX1_count_17 : decode cX1_count 17 = .ok (.lconst 0, 1) := dk_9 (dk_at dksX1_count_0 17 rfl rfl)
theorem dX1_count_18 : decode cX1_count 18 = .ok (.lconst 0, 1) := dk_9 (dk_at dksX1_count_0 18 rfl rfl)
theorem dX1_count_19 : decode cX1_count 19 = .ok (.invokevirtual 140, 3) := dk_182 0 140 (dk_at dksX1_count_0 19 rfl rfl)
theorem dX1_count_22 : decode cX1_count 22 = .ok (.istore_n 1, 1) := dk_60 (dk_at dksX1_count_0 22 rfl rfl)
theorem dX1_count_23 : decode cX1_count 23 = .ok (.iload_n 1, 1) := dk_27 (dk_at dksX1_count_0 23 rfl rfl)
theorem dX1_count_24 : decode cX1_count 24 = .ok (.ifCond .eq 73, 3) := dk_153 0 73 (dk_at dksX1_count_1 0 rfl rfl)
theorem dX1_count_27 : decode cX1_count 27 = .ok (.aload_n 0, 1) := dk_42 (dk_at dksX1_count_1 3 rfl rfl)
theorem dX1_count_28 : decode cX1_count 28 = .ok (.dup, 1) := dk_89 (dk_at dksX1_count_1 4 rfl rfl)
theorem dX1_count_29 : decode cX1_count 29 = .ok (.getfield 130, 3) := dk_180 0 130 (dk_at dksX1_count_1 5 rfl rfl)
theorem dX1_count_32 : decode cX1_count 32 = .ok (.aload_n 0, 1) := dk_42 (dk_at dksX1_count_1 8 rfl rfl)
theorem dX1_count_33 : decode cX1_count 33 = .ok (.getfield 111, 3) := dk_180 0 111 (dk_at dksX1_count_1 9 rfl rfl)
theorem dX1_count_36 : decode cX1_count 36 = .ok (.getfield 136, 3) := dk_180 0 136 (dk_at dksX1_count_1 12 rfl rfl)
theorem dX1_count_39 : decode cX1_count 39 = .ok (.getfield 146, 3) := dk_180 0 146 (dk_at dksX1_count_1 15 rfl rfl)
theorem dX1_count_42 : decode cX1_count 42 = .ok (.sipush 192, 3) := dk_17 0 192 (dk_at dksX1_count_1 18 rfl rfl)
theorem dX1_count_45 : decode cX1_count 45 = .ok (.iadd, 1) := dk_96 (dk_at dksX1_count_1 21 rfl rfl)
theorem dX1_count_46 : decode cX1_count 46 = .ok (.iadd, 1) := dk_96 (dk_at dksX1_count_1 22 rfl rfl)
theorem dX1_count_47 : decode cX1_count 47 = .ok (.putfield 130, 3) := dk_181 0 130 (dk_at dksX1_count_2 0 rfl rfl)
theorem dX1_count_50 : decode cX1_count 50 = .ok (.aload_n 0, 1) := dk_42 (dk_at dksX1_count_2 3 rfl rfl)
theorem dX1_count_51 : decode cX1_count 51 = .ok (.dup, 1) := dk_89 (dk_at dksX1_count_2 4 rfl rfl)
theorem dX1_count_52 : decode cX1_count 52 = .ok (.getfield 133, 3) := dk_180 0 133 (dk_at dksX1_count_2 5 rfl rfl)
theorem dX1_count_55 : decode cX1_count 55 = .ok (.aload_n 0, 1) := dk_42 (dk_at dksX1_count_2 8 rfl rfl)
theorem dX1_count_56 : decode cX1_count 56 = .ok (.getfield 111, 3) := dk_180 0 111 (dk_at dksX1_count_2 9 rfl rfl)
theorem dX1_count_59 : decode cX1_count 59 = .ok (.getfield 136, 3) := dk_180 0 136 (dk_at dksX1_count_2 12 rfl rfl)
theorem dX1_count_62 : decode cX1_count 62 = .ok (.getfield 149, 3) := dk_180 0 149 (dk_at dksX1_count_2 15 rfl rfl)
theorem dX1_count_65 : decode cX1_count 65 = .ok (.ldc2_w 18, 3) := dk_20 0 18 (dk_at dksX1_count_2 18 rfl rfl)
theorem dX1_count_68 : decode cX1_count 68 = .ok (.lrem, 1) := dk_113 (dk_at dksX1_count_2 21 rfl rfl)
theorem dX1_count_69 : decode cX1_count 69 = .ok (.lconst 0, 1) := dk_9 (dk_at dksX1_count_2 22 rfl rfl)
theorem dX1_count_70 : decode cX1_count 70 = .ok (.lcmp, 1) := dk_148 (dk_at dksX1_count_2 23 rfl rfl)
theorem dX1_count_71 : decode cX1_count 71 = .ok (.ifCond .ne 7, 3) := dk_154 0 7 (dk_at dksX1_count_3 0 rfl rfl)
theorem dX1_count_74 : decode cX1_count 74 = .ok (.iconst 1, 1) := dk_4 (dk_at dksX1_count_3 3 rfl rfl)
theorem dX1_count_75 : decode cX1_count 75 = .ok (.goto 4, 3) := dk_167 0 4 (dk_at dksX1_count_3 4 rfl rfl)
theorem dX1_count_78 : decode cX1_count 78 = .ok (.iconst 0, 1) := dk_3 (dk_at dksX1_count_3 7 rfl rfl)
theorem dX1_count_79 : decode cX1_count 79 = .ok (.iadd, 1) := dk_96 (dk_at dksX1_count_3 8 rfl rfl)
theorem dX1_count_80 : decode cX1_count 80 = .ok (.putfield 133, 3) := dk_181 0 133 (dk_at dksX1_count_3 9 rfl rfl)
theorem dX1_count_83 : decode cX1_count 83 = .ok (.aload_n 0, 1) := dk_42 (dk_at dksX1_count_3 12 rfl rfl)
theorem dX1_count_84 : decode cX1_count 84 = .ok (.getfield 111, 3) := dk_180 0 111 (dk_at dksX1_count_3 13 rfl rfl)
theorem dX1_count_87 : decode cX1_count 87 = .ok (.getfield 136, 3) := dk_180 0 136 (dk_at dksX1_count_3 16 rfl rfl)
theorem dX1_count_90 : decode cX1_count 90 = .ok (.invokevirtual 153, 3) := dk_182 0 153 (dk_at dksX1_count_3 19 rfl rfl)
theorem dX1_count_93 : decode cX1_count 93 = .ok (.istore_n 1, 1) := dk_60 (dk_at dksX1_count_3 22 rfl rfl)
theorem dX1_count_94 : decode cX1_count 94 = .ok (.goto (-71), 3) := dk_167 255 185 (dk_at dksX1_count_4 0 rfl rfl)
theorem dX1_count_97 : decode cX1_count 97 = .ok (.return_, 1) := dk_177 (dk_at dksX1_count_4 3 rfl rfl)
abbrev cX1_create : ByteArray := prog_1_method_24_code
def yX1_create : MethodName := ⟨RX1, "create", "(IJ)I"⟩
def dkwX1_create_0 : List UInt8 := [42, 27, 32, 5, 182, 1, 14, 172]
abbrev dktX1_create_0 : List UInt8 := dkwX1_create_0 ++ []
theorem dksX1_create_0 : cX1_create.data.toList.drop 0 = dktX1_create_0 := by decide +kernel
theorem dX1_create_0 : decode cX1_create 0 = .ok (.aload_n 0, 1) := dk_42 (dk_at dksX1_create_0 0 rfl rfl)
theorem dX1_create_1 : decode cX1_create 1 = .ok (.iload_n 1, 1) := dk_27 (dk_at dksX1_create_0 1 rfl rfl)
theorem dX1_create_2 : decode cX1_create 2 = .ok (.lload_n 2, 1) := dk_32 (dk_at dksX1_create_0 2 rfl rfl)
theorem dX1_create_3 : decode cX1_create 3 = .ok (.iconst 2, 1) := dk_5 (dk_at dksX1_create_0 3 rfl rfl)
theorem dX1_create_4 : decode cX1_create 4 = .ok (.invokevirtual 270, 3) := dk_182 1 14 (dk_at dksX1_create_0 4 rfl rfl)
theorem dX1_create_7 : decode cX1_create 7 = .ok (.ireturn, 1) := dk_172 (dk_at dksX1_create_0 7 rfl rfl)
abbrev cX1_make : ByteArray := prog_1_method_27_code
def yX1_make : MethodName := ⟨RX1, "make", "(IJI)I"⟩
def dkwX1_make_13 : List UInt8 := [96, 181, 0, 133, 42, 180, 0, 58, 180, 0, 177, 172]
abbrev dktX1_make_13 : List UInt8 := dkwX1_make_13 ++ []
def dkwX1_make_12 : List UInt8 := [182, 1, 10, 42, 182, 1, 54, 42, 89, 180, 0, 130, 21, 7, 96, 181, 0, 130, 42, 89, 180, 0, 133, 4]
abbrev dktX1_make_12 : List UInt8 := dkwX1_make_12 ++ dktX1_make_13
def dkwX1_make_11 : List UInt8 := [180, 0, 177, 3, 42, 180, 1, 22, 182, 1, 50, 42, 3, 181, 1, 22, 42, 42, 180, 0, 54, 4]
abbrev dktX1_make_11 : List UInt8 := dkwX1_make_11 ++ dktX1_make_12
def dkwX1_make_10 : List UInt8 := [42, 180, 0, 83, 3, 42, 180, 0, 47, 3, 42, 180, 1, 22, 184, 1, 44, 42, 42, 180, 0, 58]
abbrev dktX1_make_10 : List UInt8 := dkwX1_make_10 ++ dktX1_make_11
def dkwX1_make_9 : List UInt8 := [180, 0, 177, 42, 180, 0, 207, 182, 1, 40, 42, 42, 180, 0, 58, 3, 182, 1, 10, 21, 5, 153, 0, 41]
abbrev dktX1_make_9 : List UInt8 := dkwX1_make_9 ++ dktX1_make_10
def dkwX1_make_8 : List UInt8 := [180, 0, 54, 89, 180, 0, 189, 4, 96, 181, 0, 189, 42, 182, 1, 38, 42, 27, 32, 42, 180, 0, 58]
abbrev dktX1_make_8 : List UInt8 := dkwX1_make_8 ++ dktX1_make_9
def dkwX1_make_7 : List UInt8 := [167, 0, 4, 3, 181, 0, 188, 42, 180, 0, 58, 3, 181, 0, 189, 42, 180, 0, 58, 3, 181, 0, 192, 42]
abbrev dktX1_make_7 : List UInt8 := dkwX1_make_7 ++ dktX1_make_8
def dkwX1_make_6 : List UInt8 := [181, 0, 182, 42, 180, 0, 58, 4, 181, 0, 185, 42, 180, 0, 58, 21, 5, 153, 0, 10, 42, 180, 1, 22]
abbrev dktX1_make_6 : List UInt8 := dkwX1_make_6 ++ dktX1_make_7
def dkwX1_make_5 : List UInt8 := [16, 246, 172, 42, 180, 0, 58, 42, 180, 0, 111, 180, 1, 36, 181, 0, 177, 42, 180, 0, 58, 21, 4]
abbrev dktX1_make_5 : List UInt8 := dkwX1_make_5 ++ dktX1_make_6
def dkwX1_make_4 : List UInt8 := [184, 1, 33, 167, 0, 4, 3, 96, 54, 7, 42, 180, 0, 130, 21, 7, 96, 42, 180, 0, 121, 164, 0, 6]
abbrev dktX1_make_4 : List UInt8 := dkwX1_make_4 ++ dktX1_make_5
def dkwX1_make_3 : List UInt8 := [32, 182, 1, 29, 158, 0, 6, 16, 251, 172, 17, 1, 224, 21, 5, 153, 0, 13, 42, 180, 1, 22]
abbrev dktX1_make_3 : List UInt8 := dkwX1_make_3 ++ dktX1_make_4
def dkwX1_make_2 : List UInt8 := [16, 253, 172, 42, 27, 42, 180, 0, 54, 182, 1, 25, 54, 6, 21, 6, 156, 0, 6, 21, 6, 172, 42, 27]
abbrev dktX1_make_2 : List UInt8 := dkwX1_make_2 ++ dktX1_make_3
def dkwX1_make_1 : List UInt8 := [184, 1, 18, 153, 0, 21, 21, 5, 153, 0, 19, 42, 180, 1, 22, 4, 16, 64, 184, 0, 89, 154, 0, 6]
abbrev dktX1_make_1 : List UInt8 := dkwX1_make_1 ++ dktX1_make_2
def dkwX1_make_0 : List UInt8 := [42, 180, 0, 28, 154, 0, 6, 16, 254, 172, 21, 4, 6, 160, 0, 7, 4, 167, 0, 4, 3, 54, 5, 32]
abbrev dktX1_make_0 : List UInt8 := dkwX1_make_0 ++ dktX1_make_1
theorem dksX1_make_0 : cX1_make.data.toList.drop 0 = dktX1_make_0 := by decide +kernel
theorem dksX1_make_1 : cX1_make.data.toList.drop 24 = dktX1_make_1 := dk_seg dksX1_make_0 24 rfl rfl
theorem dksX1_make_2 : cX1_make.data.toList.drop 48 = dktX1_make_2 := dk_seg dksX1_make_1 24 rfl rfl
theorem dksX1_make_3 : cX1_make.data.toList.drop 72 = dktX1_make_3 := dk_seg dksX1_make_2 24 rfl rfl
theorem dksX1_make_4 : cX1_make.data.toList.drop 94 = dktX1_make_4 := dk_seg dksX1_make_3 22 rfl rfl
theorem dksX1_make_5 : cX1_make.data.toList.drop 118 = dktX1_make_5 := dk_seg dksX1_make_4 24 rfl rfl
theorem dksX1_make_6 : cX1_make.data.toList.drop 141 = dktX1_make_6 := dk_seg dksX1_make_5 23 rfl rfl
theorem dksX1_make_7 : cX1_make.data.toList.drop 165 = dktX1_make_7 := dk_seg dksX1_make_6 24 rfl rfl
theorem dksX1_make_8 : cX1_make.data.toList.drop 189 = dktX1_make_8 := dk_seg dksX1_make_7 24 rfl rfl
theorem dksX1_make_9 : cX1_make.data.toList.drop 212 = dktX1_make_9 := dk_seg dksX1_make_8 23 rfl rfl
theorem dksX1_make_10 : cX1_make.data.toList.drop 236 = dktX1_make_10 := dk_seg dksX1_make_9 24 rfl rfl
theorem dksX1_make_11 : cX1_make.data.toList.drop 258 = dktX1_make_11 := dk_seg dksX1_make_10 22 rfl rfl
theorem dksX1_make_12 : cX1_make.data.toList.drop 280 = dktX1_make_12 := dk_seg dksX1_make_11 22 rfl rfl
theorem dksX1_make_13 : cX1_make.data.toList.drop 304 = dktX1_make_13 := dk_seg dksX1_make_12 24 rfl rfl
theorem dX1_make_0 : decode cX1_make 0 = .ok (.aload_n 0, 1) := dk_42 (dk_at dksX1_make_0 0 rfl rfl)
theorem dX1_make_1 : decode cX1_make 1 = .ok (.getfield 28, 3) := dk_180 0 28 (dk_at dksX1_make_0 1 rfl rfl)
theorem dX1_make_4 : decode cX1_make 4 = .ok (.ifCond .ne 6, 3) := dk_154 0 6 (dk_at dksX1_make_0 4 rfl rfl)
theorem dX1_make_7 : decode cX1_make 7 = .ok (.bipush (-2), 2) := dk_16 254 (dk_at dksX1_make_0 7 rfl rfl)
theorem dX1_make_9 : decode cX1_make 9 = .ok (.ireturn, 1) := dk_172 (dk_at dksX1_make_0 9 rfl rfl)
theorem dX1_make_10 : decode cX1_make 10 = .ok (.iload 4, 2) := dk_21 4 (dk_at dksX1_make_0 10 rfl rfl)
theorem dX1_make_12 : decode cX1_make 12 = .ok (.iconst 3, 1) := dk_6 (dk_at dksX1_make_0 12 rfl rfl)
theorem dX1_make_13 : decode cX1_make 13 = .ok (.if_icmp .ne 7, 3) := dk_160 0 7 (dk_at dksX1_make_0 13 rfl rfl)
theorem dX1_make_16 : decode cX1_make 16 = .ok (.iconst 1, 1) := dk_4 (dk_at dksX1_make_0 16 rfl rfl)
theorem dX1_make_17 : decode cX1_make 17 = .ok (.goto 4, 3) := dk_167 0 4 (dk_at dksX1_make_0 17 rfl rfl)
theorem dX1_make_20 : decode cX1_make 20 = .ok (.iconst 0, 1) := dk_3 (dk_at dksX1_make_0 20 rfl rfl)
theorem dX1_make_21 : decode cX1_make 21 = .ok (.istore 5, 2) := dk_54 5 (dk_at dksX1_make_0 21 rfl rfl)
theorem dX1_make_23 : decode cX1_make 23 = .ok (.lload_n 2, 1) := dk_32 (dk_at dksX1_make_0 23 rfl rfl)
theorem dX1_make_24 : decode cX1_make 24 = .ok (.invokestatic 274, 3) := dk_184 1 18 (dk_at dksX1_make_1 0 rfl rfl)
theorem dX1_make_27 : decode cX1_make 27 = .ok (.ifCond .eq 21, 3) := dk_153 0 21 (dk_at dksX1_make_1 3 rfl rfl)
theorem dX1_make_30 : decode cX1_make 30 = .ok (.iload 5, 2) := dk_21 5 (dk_at dksX1_make_1 6 rfl rfl)
theorem dX1_make_32 : decode cX1_make 32 = .ok (.ifCond .eq 19, 3) := dk_153 0 19 (dk_at dksX1_make_1 8 rfl rfl)
theorem dX1_make_35 : decode cX1_make 35 = .ok (.aload_n 0, 1) := dk_42 (dk_at dksX1_make_1 11 rfl rfl)
theorem dX1_make_36 : decode cX1_make 36 = .ok (.getfield 278, 3) := dk_180 1 22 (dk_at dksX1_make_1 12 rfl rfl)
theorem dX1_make_39 : decode cX1_make 39 = .ok (.iconst 1, 1) := dk_4 (dk_at dksX1_make_1 15 rfl rfl)
theorem dX1_make_40 : decode cX1_make 40 = .ok (.bipush 64, 2) := dk_16 64 (dk_at dksX1_make_1 16 rfl rfl)
theorem dX1_make_42 : decode cX1_make 42 = .ok (.invokestatic 89, 3) := dk_184 0 89 (dk_at dksX1_make_1 18 rfl rfl)
theorem dX1_make_45 : decode cX1_make 45 = .ok (.ifCond .ne 6, 3) := dk_154 0 6 (dk_at dksX1_make_1 21 rfl rfl)
theorem dX1_make_48 : decode cX1_make 48 = .ok (.bipush (-3), 2) := dk_16 253 (dk_at dksX1_make_2 0 rfl rfl)
theorem dX1_make_50 : decode cX1_make 50 = .ok (.ireturn, 1) := dk_172 (dk_at dksX1_make_2 2 rfl rfl)
theorem dX1_make_51 : decode cX1_make 51 = .ok (.aload_n 0, 1) := dk_42 (dk_at dksX1_make_2 3 rfl rfl)
theorem dX1_make_52 : decode cX1_make 52 = .ok (.iload_n 1, 1) := dk_27 (dk_at dksX1_make_2 4 rfl rfl)
theorem dX1_make_53 : decode cX1_make 53 = .ok (.aload_n 0, 1) := dk_42 (dk_at dksX1_make_2 5 rfl rfl)
theorem dX1_make_54 : decode cX1_make 54 = .ok (.getfield 54, 3) := dk_180 0 54 (dk_at dksX1_make_2 6 rfl rfl)
theorem dX1_make_57 : decode cX1_make 57 = .ok (.invokevirtual 281, 3) := dk_182 1 25 (dk_at dksX1_make_2 9 rfl rfl)
theorem dX1_make_60 : decode cX1_make 60 = .ok (.istore 6, 2) := dk_54 6 (dk_at dksX1_make_2 12 rfl rfl)
theorem dX1_make_62 : decode cX1_make 62 = .ok (.iload 6, 2) := dk_21 6 (dk_at dksX1_make_2 14 rfl rfl)
theorem dX1_make_64 : decode cX1_make 64 = .ok (.ifCond .ge 6, 3) := dk_156 0 6 (dk_at dksX1_make_2 16 rfl rfl)
theorem dX1_make_67 : decode cX1_make 67 = .ok (.iload 6, 2) := dk_21 6 (dk_at dksX1_make_2 19 rfl rfl)
theorem dX1_make_69 : decode cX1_make 69 = .ok (.ireturn, 1) := dk_172 (dk_at dksX1_make_2 21 rfl rfl)
theorem dX1_make_70 : decode cX1_make 70 = .ok (.aload_n 0, 1) := dk_42 (dk_at dksX1_make_2 22 rfl rfl)
theorem dX1_make_71 : decode cX1_make 71 = .ok (.iload_n 1, 1) := dk_27 (dk_at dksX1_make_2 23 rfl rfl)
theorem dX1_make_72 : decode cX1_make 72 = .ok (.lload_n 2, 1) := dk_32 (dk_at dksX1_make_3 0 rfl rfl)
theorem dX1_make_73 : decode cX1_make 73 = .ok (.invokevirtual 285, 3) := dk_182 1 29 (dk_at dksX1_make_3 1 rfl rfl)
theorem dX1_make_76 : decode cX1_make 76 = .ok (.ifCond .le 6, 3) := dk_158 0 6 (dk_at dksX1_make_3 4 rfl rfl)
theorem dX1_make_79 : decode cX1_make 79 = .ok (.bipush (-5), 2) := dk_16 251 (dk_at dksX1_make_3 7 rfl rfl)
theorem dX1_make_81 : decode cX1_make 81 = .ok (.ireturn, 1) := dk_172 (dk_at dksX1_make_3 9 rfl rfl)
theorem dX1_make_82 : decode cX1_make 82 = .ok (.sipush 480, 3) := dk_17 1 224 (dk_at dksX1_make_3 10 rfl rfl)
theorem dX1_make_85 : decode cX1_make 85 = .ok (.iload 5, 2) := dk_21 5 (dk_at dksX1_make_3 13 rfl rfl)
theorem dX1_make_87 : decode cX1_make 87 = .ok (.ifCond .eq 13, 3) := dk_153 0 13 (dk_at dksX1_make_3 15 rfl rfl)
theorem dX1_make_90 : decode cX1_make 90 = .ok (.aload_n 0, 1) := dk_42 (dk_at dksX1_make_3 18 rfl rfl)
theorem dX1_make_91 : decode cX1_make 91 = .ok (.getfield 278, 3) := dk_180 1 22 (dk_at dksX1_make_3 19 rfl rfl)
theorem dX1_make_94 : decode cX1_make 94 = .ok (.invokestatic 289, 3) := dk_184 1 33 (dk_at dksX1_make_4 0 rfl rfl)
theorem dX1_make_97 : decode cX1_make 97 = .ok (.goto 4, 3) := dk_167 0 4 (dk_at dksX1_make_4 3 rfl rfl)
theorem dX1_make_100 : decode cX1_make 100 = .ok (.iconst 0, 1) := dk_3 (dk_at dksX1_make_4 6 rfl rfl)
theorem dX1_make_101 : decode cX1_make 101 = .ok (.iadd, 1) := dk_96 (dk_at dksX1_make_4 7 rfl rfl)
theorem dX1_make_102 : decode cX1_make 102 = .ok (.istore 7, 2) := dk_54 7 (dk_at dksX1_make_4 8 rfl rfl)
theorem dX1_make_104 : decode cX1_make 104 = .ok (.aload_n 0, 1) := dk_42 (dk_at dksX1_make_4 10 rfl rfl)
theorem dX1_make_105 : decode cX1_make 105 = .ok (.getfield 130, 3) := dk_180 0 130 (dk_at dksX1_make_4 11 rfl rfl)
theorem dX1_make_108 : decode cX1_make 108 = .ok (.iload 7, 2) := dk_21 7 (dk_at dksX1_make_4 14 rfl rfl)
theorem dX1_make_110 : decode cX1_make 110 = .ok (.iadd, 1) := dk_96 (dk_at dksX1_make_4 16 rfl rfl)
theorem dX1_make_111 : decode cX1_make 111 = .ok (.aload_n 0, 1) := dk_42 (dk_at dksX1_make_4 17 rfl rfl)
theorem dX1_make_112 : decode cX1_make 112 = .ok (.getfield 121, 3) := dk_180 0 121 (dk_at dksX1_make_4 18 rfl rfl)
theorem dX1_make_115 : decode cX1_make 115 = .ok (.if_icmp .le 6, 3) := dk_164 0 6 (dk_at dksX1_make_4 21 rfl rfl)
theorem dX1_make_118 : decode cX1_make 118 = .ok (.bipush (-10), 2) := dk_16 246 (dk_at dksX1_make_5 0 rfl rfl)
theorem dX1_make_120 : decode cX1_make 120 = .ok (.ireturn, 1) := dk_172 (dk_at dksX1_make_5 2 rfl rfl)
theorem dX1_make_121 : decode cX1_make 121 = .ok (.aload_n 0, 1) := dk_42 (dk_at dksX1_make_5 3 rfl rfl)
theorem dX1_make_122 : decode cX1_make 122 = .ok (.getfield 58, 3) := dk_180 0 58 (dk_at dksX1_make_5 4 rfl rfl)
theorem dX1_make_125 : decode cX1_make 125 = .ok (.aload_n 0, 1) := dk_42 (dk_at dksX1_make_5 7 rfl rfl)
theorem dX1_make_126 : decode cX1_make 126 = .ok (.getfield 111, 3) := dk_180 0 111 (dk_at dksX1_make_5 8 rfl rfl)
theorem dX1_make_129 : decode cX1_make 129 = .ok (.getfield 292, 3) := dk_180 1 36 (dk_at dksX1_make_5 11 rfl rfl)
theorem dX1_make_132 : decode cX1_make 132 = .ok (.putfield 177, 3) := dk_181 0 177 (dk_at dksX1_make_5 14 rfl rfl)
theorem dX1_make_135 : decode cX1_make 135 = .ok (.aload_n 0, 1) := dk_42 (dk_at dksX1_make_5 17 rfl rfl)
theorem dX1_make_136 : decode cX1_make 136 = .ok (.getfield 58, 3) := dk_180 0 58 (dk_at dksX1_make_5 18 rfl rfl)
theorem dX1_make_139 : decode cX1_make 139 = .ok (.iload 4, 2) := dk_21 4 (dk_at dksX1_make_5 21 rfl rfl)
theorem dX1_make_141 : decode cX1_make 141 = .ok (.putfield 182, 3) := dk_181 0 182 (dk_at dksX1_make_6 0 rfl rfl)
theorem dX1_make_144 : decode cX1_make 144 = .ok (.aload_n 0, 1) := dk_42 (dk_at dksX1_make_6 3 rfl rfl)
theorem dX1_make_145 : decode cX1_make 145 = .ok (.getfield 58, 3) := dk_180 0 58 (dk_at dksX1_make_6 4 rfl rfl)
theorem dX1_make_148 : decode cX1_make 148 = .ok (.iconst 1, 1) := dk_4 (dk_at dksX1_make_6 7 rfl rfl)
theorem dX1_make_149 : decode cX1_make 149 = .ok (.putfield 185, 3) := dk_181 0 185 (dk_at dksX1_make_6 8 rfl rfl)
theorem dX1_make_152 : decode cX1_make 152 = .ok (.aload_n 0, 1) := dk_42 (dk_at dksX1_make_6 11 rfl rfl)
theorem dX1_make_153 : decode cX1_make 153 = .ok (.getfield 58, 3) := dk_180 0 58 (dk_at dksX1_make_6 12 rfl rfl)
theorem dX1_make_156 : decode cX1_make 156 = .ok (.iload 5, 2) := dk_21 5 (dk_at dksX1_make_6 15 rfl rfl)
theorem dX1_make_158 : decode cX1_make 158 = .ok (.ifCond .eq 10, 3) := dk_153 0 10 (dk_at dksX1_make_6 17 rfl rfl)
theorem dX1_make_161 : decode cX1_make 161 = .ok (.aload_n 0, 1) := dk_42 (dk_at dksX1_make_6 20 rfl rfl)
theorem dX1_make_162 : decode cX1_make 162 = .ok (.getfield 278, 3) := dk_180 1 22 (dk_at dksX1_make_6 21 rfl rfl)
theorem dX1_make_165 : decode cX1_make 165 = .ok (.goto 4, 3) := dk_167 0 4 (dk_at dksX1_make_7 0 rfl rfl)
theorem dX1_make_168 : decode cX1_make 168 = .ok (.iconst 0, 1) := dk_3 (dk_at dksX1_make_7 3 rfl rfl)
theorem dX1_make_169 : decode cX1_make 169 = .ok (.putfield 188, 3) := dk_181 0 188 (dk_at dksX1_make_7 4 rfl rfl)
theorem dX1_make_172 : decode cX1_make 172 = .ok (.aload_n 0, 1) := dk_42 (dk_at dksX1_make_7 7 rfl rfl)
theorem dX1_make_173 : decode cX1_make 173 = .ok (.getfield 58, 3) := dk_180 0 58 (dk_at dksX1_make_7 8 rfl rfl)
theorem dX1_make_176 : decode cX1_make 176 = .ok (.iconst 0, 1) := dk_3 (dk_at dksX1_make_7 11 rfl rfl)
theorem dX1_make_177 : decode cX1_make 177 = .ok (.putfield 189, 3) := dk_181 0 189 (dk_at dksX1_make_7 12 rfl rfl)
theorem dX1_make_180 : decode cX1_make 180 = .ok (.aload_n 0, 1) := dk_42 (dk_at dksX1_make_7 15 rfl rfl)
theorem dX1_make_181 : decode cX1_make 181 = .ok (.getfield 58, 3) := dk_180 0 58 (dk_at dksX1_make_7 16 rfl rfl)
theorem dX1_make_184 : decode cX1_make 184 = .ok (.iconst 0, 1) := dk_3 (dk_at dksX1_make_7 19 rfl rfl)
theorem dX1_make_185 : decode cX1_make 185 = .ok (.putfield 192, 3) := dk_181 0 192 (dk_at dksX1_make_7 20 rfl rfl)
theorem dX1_make_188 : decode cX1_make 188 = .ok (.aload_n 0, 1) := dk_42 (dk_at dksX1_make_7 23 rfl rfl)
theorem dX1_make_189 : decode cX1_make 189 = .ok (.getfield 54, 3) := dk_180 0 54 (dk_at dksX1_make_8 0 rfl rfl)
theorem dX1_make_192 : decode cX1_make 192 = .ok (.dup, 1) := dk_89 (dk_at dksX1_make_8 3 rfl rfl)
theorem dX1_make_193 : decode cX1_make 193 = .ok (.getfield 189, 3) := dk_180 0 189 (dk_at dksX1_make_8 4 rfl rfl)
theorem dX1_make_196 : decode cX1_make 196 = .ok (.iconst 1, 1) := dk_4 (dk_at dksX1_make_8 7 rfl rfl)
theorem dX1_make_197 : decode cX1_make 197 = .ok (.iadd, 1) := dk_96 (dk_at dksX1_make_8 8 rfl rfl)
theorem dX1_make_198 : decode cX1_make 198 = .ok (.putfield 189, 3) := dk_181 0 189 (dk_at dksX1_make_8 9 rfl rfl)
theorem dX1_make_201 : decode cX1_make 201 = .ok (.aload_n 0, 1) := dk_42 (dk_at dksX1_make_8 12 rfl rfl)
theorem dX1_make_202 : decode cX1_make 202 = .ok (.invokevirtual 294, 3) := dk_182 1 38 (dk_at dksX1_make_8 13 rfl rfl)
theorem dX1_make_205 : decode cX1_make 205 = .ok (.aload_n 0, 1) := dk_42 (dk_at dksX1_make_8 16 rfl rfl)
theorem dX1_make_206 : decode cX1_make 206 = .ok (.iload_n 1, 1) := dk_27 (dk_at dksX1_make_8 17 rfl rfl)
theorem dX1_make_207 : decode cX1_make 207 = .ok (.lload_n 2, 1) := dk_32 (dk_at dksX1_make_8 18 rfl rfl)
theorem dX1_make_208 : decode cX1_make 208 = .ok (.aload_n 0, 1) := dk_42 (dk_at dksX1_make_8 19 rfl rfl)
theorem dX1_make_209 : decode cX1_make 209 = .ok (.getfield 58, 3) := dk_180 0 58 (dk_at dksX1_make_8 20 rfl rfl)
theorem dX1_make_212 : decode cX1_make 212 = .ok (.getfield 177, 3) := dk_180 0 177 (dk_at dksX1_make_9 0 rfl rfl)
theorem dX1_make_215 : decode cX1_make 215 = .ok (.aload_n 0, 1) := dk_42 (dk_at dksX1_make_9 3 rfl rfl)
theorem dX1_make_216 : decode cX1_make 216 = .ok (.getfield 207, 3) := dk_180 0 207 (dk_at dksX1_make_9 4 rfl rfl)
theorem dX1_make_219 : decode cX1_make 219 = .ok (.invokevirtual 296, 3) := dk_182 1 40 (dk_at dksX1_make_9 7 rfl rfl)
theorem dX1_make_222 : decode cX1_make 222 = .ok (.aload_n 0, 1) := dk_42 (dk_at dksX1_make_9 10 rfl rfl)
theorem dX1_make_223 : decode cX1_make 223 = .ok (.aload_n 0, 1) := dk_42 (dk_at dksX1_make_9 11 rfl rfl)
theorem dX1_make_224 : decode cX1_make 224 = .ok (.getfield 58, 3) := dk_180 0 58 (dk_at dksX1_make_9 12 rfl rfl)
theorem dX1_make_227 : decode cX1_make 227 = .ok (.iconst 0, 1) := dk_3 (dk_at dksX1_make_9 15 rfl rfl)
theorem dX1_make_228 : decode cX1_make 228 = .ok (.invokevirtual 266, 3) := dk_182 1 10 (dk_at dksX1_make_9 16 rfl rfl)
theorem dX1_make_231 : decode cX1_make 231 = .ok (.iload 5, 2) := dk_21 5 (dk_at dksX1_make_9 19 rfl rfl)
theorem dX1_make_233 : decode cX1_make 233 = .ok (.ifCond .eq 41, 3) := dk_153 0 41 (dk_at dksX1_make_9 21 rfl rfl)
theorem dX1_make_236 : decode cX1_make 236 = .ok (.aload_n 0, 1) := dk_42 (dk_at dksX1_make_10 0 rfl rfl)
theorem dX1_make_237 : decode cX1_make 237 = .ok (.getfield 83, 3) := dk_180 0 83 (dk_at dksX1_make_10 1 rfl rfl)
theorem dX1_make_240 : decode cX1_make 240 = .ok (.iconst 0, 1) := dk_3 (dk_at dksX1_make_10 4 rfl rfl)
theorem dX1_make_241 : decode cX1_make 241 = .ok (.aload_n 0, 1) := dk_42 (dk_at dksX1_make_10 5 rfl rfl)
theorem dX1_make_242 : decode cX1_make 242 = .ok (.getfield 47, 3) := dk_180 0 47 (dk_at dksX1_make_10 6 rfl rfl)
theorem dX1_make_245 : decode cX1_make 245 = .ok (.iconst 0, 1) := dk_3 (dk_at dksX1_make_10 9 rfl rfl)
theorem dX1_make_246 : decode cX1_make 246 = .ok (.aload_n 0, 1) := dk_42 (dk_at dksX1_make_10 10 rfl rfl)
theorem dX1_make_247 : decode cX1_make 247 = .ok (.getfield 278, 3) := dk_180 1 22 (dk_at dksX1_make_10 11 rfl rfl)
theorem dX1_make_250 : decode cX1_make 250 = .ok (.invokestatic 300, 3) := dk_184 1 44 (dk_at dksX1_make_10 14 rfl rfl)
theorem dX1_make_253 : decode cX1_make 253 = .ok (.aload_n 0, 1) := dk_42 (dk_at dksX1_make_10 17 rfl rfl)
theorem dX1_make_254 : decode cX1_make 254 = .ok (.aload_n 0, 1) := dk_42 (dk_at dksX1_make_10 18 rfl rfl)
theorem dX1_make_255 : decode cX1_make 255 = .ok (.getfield 58, 3) := dk_180 0 58 (dk_at dksX1_make_10 19 rfl rfl)
theorem dX1_make_258 : decode cX1_make 258 = .ok (.getfield 177, 3) := dk_180 0 177 (dk_at dksX1_make_11 0 rfl rfl)
theorem dX1_make_261 : decode cX1_make 261 = .ok (.iconst 0, 1) := dk_3 (dk_at dksX1_make_11 3 rfl rfl)
theorem dX1_make_262 : decode cX1_make 262 = .ok (.aload_n 0, 1) := dk_42 (dk_at dksX1_make_11 4 rfl rfl)
theorem dX1_make_263 : decode cX1_make 263 = .ok (.getfield 278, 3) := dk_180 1 22 (dk_at dksX1_make_11 5 rfl rfl)
theorem dX1_make_266 : decode cX1_make 266 = .ok (.invokevirtual 306, 3) := dk_182 1 50 (dk_at dksX1_make_11 8 rfl rfl)
theorem dX1_make_269 : decode cX1_make 269 = .ok (.aload_n 0, 1) := dk_42 (dk_at dksX1_make_11 11 rfl rfl)
theorem dX1_make_270 : decode cX1_make 270 = .ok (.iconst 0, 1) := dk_3 (dk_at dksX1_make_11 12 rfl rfl)
theorem dX1_make_271 : decode cX1_make 271 = .ok (.putfield 278, 3) := dk_181 1 22 (dk_at dksX1_make_11 13 rfl rfl)
theorem dX1_make_274 : decode cX1_make 274 = .ok (.aload_n 0, 1) := dk_42 (dk_at dksX1_make_11 16 rfl rfl)
theorem dX1_make_275 : decode cX1_make 275 = .ok (.aload_n 0, 1) := dk_42 (dk_at dksX1_make_11 17 rfl rfl)
theorem dX1_make_276 : decode cX1_make 276 = .ok (.getfield 54, 3) := dk_180 0 54 (dk_at dksX1_make_11 18 rfl rfl)
theorem dX1_make_279 : decode cX1_make 279 = .ok (.iconst 1, 1) := dk_4 (dk_at dksX1_make_11 21 rfl rfl)
theorem dX1_make_280 : decode cX1_make 280 = .ok (.invokevirtual 266, 3) := dk_182 1 10 (dk_at dksX1_make_12 0 rfl rfl)
theorem dX1_make_283 : decode cX1_make 283 = .ok (.aload_n 0, 1) := dk_42 (dk_at dksX1_make_12 3 rfl rfl)
theorem dX1_make_284 : decode cX1_make 284 = .ok (.invokevirtual 310, 3) := dk_182 1 54 (dk_at dksX1_make_12 4 rfl rfl)
theorem dX1_make_287 : decode cX1_make 287 = .ok (.aload_n 0, 1) := dk_42 (dk_at dksX1_make_12 7 rfl rfl)
theorem dX1_make_288 : decode cX1_make 288 = .ok (.dup, 1) := dk_89 (dk_at dksX1_make_12 8 rfl rfl)
theorem dX1_make_289 : decode cX1_make 289 = .ok (.getfield 130, 3) := dk_180 0 130 (dk_at dksX1_make_12 9 rfl rfl)
theorem dX1_make_292 : decode cX1_make 292 = .ok (.iload 7, 2) := dk_21 7 (dk_at dksX1_make_12 12 rfl rfl)
theorem dX1_make_294 : decode cX1_make 294 = .ok (.iadd, 1) := dk_96 (dk_at dksX1_make_12 14 rfl rfl)
theorem dX1_make_295 : decode cX1_make 295 = .ok (.putfield 130, 3) := dk_181 0 130 (dk_at dksX1_make_12 15 rfl rfl)
theorem dX1_make_298 : decode cX1_make 298 = .ok (.aload_n 0, 1) := dk_42 (dk_at dksX1_make_12 18 rfl rfl)
theorem dX1_make_299 : decode cX1_make 299 = .ok (.dup, 1) := dk_89 (dk_at dksX1_make_12 19 rfl rfl)
theorem dX1_make_300 : decode cX1_make 300 = .ok (.getfield 133, 3) := dk_180 0 133 (dk_at dksX1_make_12 20 rfl rfl)
theorem dX1_make_303 : decode cX1_make 303 = .ok (.iconst 1, 1) := dk_4 (dk_at dksX1_make_12 23 rfl rfl)
theorem dX1_make_304 : decode cX1_make 304 = .ok (.iadd, 1) := dk_96 (dk_at dksX1_make_13 0 rfl rfl)
theorem dX1_make_305 : decode cX1_make 305 = .ok (.putfield 133, 3) := dk_181 0 133 (dk_at dksX1_make_13 1 rfl rfl)
theorem dX1_make_308 : decode cX1_make 308 = .ok (.aload_n 0, 1) := dk_42 (dk_at dksX1_make_13 4 rfl rfl)
theorem dX1_make_309 : decode cX1_make 309 = .ok (.getfield 58, 3) := dk_180 0 58 (dk_at dksX1_make_13 5 rfl rfl)
theorem dX1_make_312 : decode cX1_make 312 = .ok (.getfield 177, 3) := dk_180 0 177 (dk_at dksX1_make_13 8 rfl rfl)
theorem dX1_make_315 : decode cX1_make 315 = .ok (.ireturn, 1) := dk_172 (dk_at dksX1_make_13 11 rfl rfl)
abbrev cX1_isName : ByteArray := prog_1_method_14_code
def yX1_isName : MethodName := ⟨RX1, "isName", "(J)Z"⟩
def dkwX1_isName_3 : List UInt8 := [28, 154, 0, 7, 4, 167, 0, 4, 3, 62, 132, 4, 1, 167, 255, 193, 29, 172]
abbrev dktX1_isName_3 : List UInt8 := dkwX1_isName_3 ++ []
def dkwX1_isName_2 : List UInt8 := [21, 5, 154, 0, 7, 4, 167, 0, 4, 3, 128, 61, 21, 5, 16, 47, 159, 0, 16, 21, 5, 153, 0, 7]
abbrev dktX1_isName_2 : List UInt8 := dkwX1_isName_2 ++ dktX1_isName_3
def dkwX1_isName_1 : List UInt8 := [16, 8, 162, 0, 62, 29, 153, 0, 58, 30, 16, 8, 21, 4, 104, 125, 136, 17, 0, 255, 126, 54, 5, 28]
abbrev dktX1_isName_1 : List UInt8 := dkwX1_isName_1 ++ dktX1_isName_2
def dkwX1_isName_0 : List UInt8 := [3, 61, 30, 20, 0, 195, 127, 9, 148, 153, 0, 7, 4, 167, 0, 4, 3, 62, 3, 54, 4, 21, 4]
abbrev dktX1_isName_0 : List UInt8 := dkwX1_isName_0 ++ dktX1_isName_1
theorem dksX1_isName_0 : cX1_isName.data.toList.drop 0 = dktX1_isName_0 := by decide +kernel
theorem dksX1_isName_1 : cX1_isName.data.toList.drop 23 = dktX1_isName_1 := dk_seg dksX1_isName_0 23 rfl rfl
theorem dksX1_isName_2 : cX1_isName.data.toList.drop 47 = dktX1_isName_2 := dk_seg dksX1_isName_1 24 rfl rfl
theorem dksX1_isName_3 : cX1_isName.data.toList.drop 71 = dktX1_isName_3 := dk_seg dksX1_isName_2 24 rfl rfl
theorem dX1_isName_0 : decode cX1_isName 0 = .ok (.iconst 0, 1) := dk_3 (dk_at dksX1_isName_0 0 rfl rfl)
theorem dX1_isName_1 : decode cX1_isName 1 = .ok (.istore_n 2, 1) := dk_61 (dk_at dksX1_isName_0 1 rfl rfl)
theorem dX1_isName_2 : decode cX1_isName 2 = .ok (.lload_n 0, 1) := dk_30 (dk_at dksX1_isName_0 2 rfl rfl)
theorem dX1_isName_3 : decode cX1_isName 3 = .ok (.ldc2_w 195, 3) := dk_20 0 195 (dk_at dksX1_isName_0 3 rfl rfl)
theorem dX1_isName_6 : decode cX1_isName 6 = .ok (.land, 1) := dk_127 (dk_at dksX1_isName_0 6 rfl rfl)
theorem dX1_isName_7 : decode cX1_isName 7 = .ok (.lconst 0, 1) := dk_9 (dk_at dksX1_isName_0 7 rfl rfl)
theorem dX1_isName_8 : decode cX1_isName 8 = .ok (.lcmp, 1) := dk_148 (dk_at dksX1_isName_0 8 rfl rfl)
theorem dX1_isName_9 : decode cX1_isName 9 = .ok (.ifCond .eq 7, 3) := dk_153 0 7 (dk_at dksX1_isName_0 9 rfl rfl)
theorem dX1_isName_12 : decode cX1_isName 12 = .ok (.iconst 1, 1) := dk_4 (dk_at dksX1_isName_0 12 rfl rfl)
theorem dX1_isName_13 : decode cX1_isName 13 = .ok (.goto 4, 3) := dk_167 0 4 (dk_at dksX1_isName_0 13 rfl rfl)
theorem dX1_isName_16 : decode cX1_isName 16 = .ok (.iconst 0, 1) := dk_3 (dk_at dksX1_isName_0 16 rfl rfl)
theorem dX1_isName_17 : decode cX1_isName 17 = .ok (.istore_n 3, 1) := dk_62 (dk_at dksX1_isName_0 17 rfl rfl)
theorem dX1_isName_18 : decode cX1_isName 18 = .ok (.iconst 0, 1) := dk_3 (dk_at dksX1_isName_0 18 rfl rfl)
theorem dX1_isName_19 : decode cX1_isName 19 = .ok (.istore 4, 2) := dk_54 4 (dk_at dksX1_isName_0 19 rfl rfl)
theorem dX1_isName_21 : decode cX1_isName 21 = .ok (.iload 4, 2) := dk_21 4 (dk_at dksX1_isName_0 21 rfl rfl)
theorem dX1_isName_23 : decode cX1_isName 23 = .ok (.bipush 8, 2) := dk_16 8 (dk_at dksX1_isName_1 0 rfl rfl)
theorem dX1_isName_25 : decode cX1_isName 25 = .ok (.if_icmp .ge 62, 3) := dk_162 0 62 (dk_at dksX1_isName_1 2 rfl rfl)
theorem dX1_isName_28 : decode cX1_isName 28 = .ok (.iload_n 3, 1) := dk_29 (dk_at dksX1_isName_1 5 rfl rfl)
theorem dX1_isName_29 : decode cX1_isName 29 = .ok (.ifCond .eq 58, 3) := dk_153 0 58 (dk_at dksX1_isName_1 6 rfl rfl)
theorem dX1_isName_32 : decode cX1_isName 32 = .ok (.lload_n 0, 1) := dk_30 (dk_at dksX1_isName_1 9 rfl rfl)
theorem dX1_isName_33 : decode cX1_isName 33 = .ok (.bipush 8, 2) := dk_16 8 (dk_at dksX1_isName_1 10 rfl rfl)
theorem dX1_isName_35 : decode cX1_isName 35 = .ok (.iload 4, 2) := dk_21 4 (dk_at dksX1_isName_1 12 rfl rfl)
theorem dX1_isName_37 : decode cX1_isName 37 = .ok (.imul, 1) := dk_104 (dk_at dksX1_isName_1 14 rfl rfl)
theorem dX1_isName_38 : decode cX1_isName 38 = .ok (.lushr, 1) := dk_125 (dk_at dksX1_isName_1 15 rfl rfl)
theorem dX1_isName_39 : decode cX1_isName 39 = .ok (.l2i, 1) := dk_136 (dk_at dksX1_isName_1 16 rfl rfl)
theorem dX1_isName_40 : decode cX1_isName 40 = .ok (.sipush 255, 3) := dk_17 0 255 (dk_at dksX1_isName_1 17 rfl rfl)
theorem dX1_isName_43 : decode cX1_isName 43 = .ok (.iand, 1) := dk_126 (dk_at dksX1_isName_1 20 rfl rfl)
theorem dX1_isName_44 : decode cX1_isName 44 = .ok (.istore 5, 2) := dk_54 5 (dk_at dksX1_isName_1 21 rfl rfl)
theorem dX1_isName_46 : decode cX1_isName 46 = .ok (.iload_n 2, 1) := dk_28 (dk_at dksX1_isName_1 23 rfl rfl)
theorem dX1_isName_47 : decode cX1_isName 47 = .ok (.iload 5, 2) := dk_21 5 (dk_at dksX1_isName_2 0 rfl rfl)
theorem dX1_isName_49 : decode cX1_isName 49 = .ok (.ifCond .ne 7, 3) := dk_154 0 7 (dk_at dksX1_isName_2 2 rfl rfl)
theorem dX1_isName_52 : decode cX1_isName 52 = .ok (.iconst 1, 1) := dk_4 (dk_at dksX1_isName_2 5 rfl rfl)
theorem dX1_isName_53 : decode cX1_isName 53 = .ok (.goto 4, 3) := dk_167 0 4 (dk_at dksX1_isName_2 6 rfl rfl)
theorem dX1_isName_56 : decode cX1_isName 56 = .ok (.iconst 0, 1) := dk_3 (dk_at dksX1_isName_2 9 rfl rfl)
theorem dX1_isName_57 : decode cX1_isName 57 = .ok (.ior, 1) := dk_128 (dk_at dksX1_isName_2 10 rfl rfl)
theorem dX1_isName_58 : decode cX1_isName 58 = .ok (.istore_n 2, 1) := dk_61 (dk_at dksX1_isName_2 11 rfl rfl)
theorem dX1_isName_59 : decode cX1_isName 59 = .ok (.iload 5, 2) := dk_21 5 (dk_at dksX1_isName_2 12 rfl rfl)
theorem dX1_isName_61 : decode cX1_isName 61 = .ok (.bipush 47, 2) := dk_16 47 (dk_at dksX1_isName_2 14 rfl rfl)
theorem dX1_isName_63 : decode cX1_isName 63 = .ok (.if_icmp .eq 16, 3) := dk_159 0 16 (dk_at dksX1_isName_2 16 rfl rfl)
theorem dX1_isName_66 : decode cX1_isName 66 = .ok (.iload 5, 2) := dk_21 5 (dk_at dksX1_isName_2 19 rfl rfl)
theorem dX1_isName_68 : decode cX1_isName 68 = .ok (.ifCond .eq 7, 3) := dk_153 0 7 (dk_at dksX1_isName_2 21 rfl rfl)
theorem dX1_isName_71 : decode cX1_isName 71 = .ok (.iload_n 2, 1) := dk_28 (dk_at dksX1_isName_3 0 rfl rfl)
theorem dX1_isName_72 : decode cX1_isName 72 = .ok (.ifCond .ne 7, 3) := dk_154 0 7 (dk_at dksX1_isName_3 1 rfl rfl)
theorem dX1_isName_75 : decode cX1_isName 75 = .ok (.iconst 1, 1) := dk_4 (dk_at dksX1_isName_3 4 rfl rfl)
theorem dX1_isName_76 : decode cX1_isName 76 = .ok (.goto 4, 3) := dk_167 0 4 (dk_at dksX1_isName_3 5 rfl rfl)
theorem dX1_isName_79 : decode cX1_isName 79 = .ok (.iconst 0, 1) := dk_3 (dk_at dksX1_isName_3 8 rfl rfl)
theorem dX1_isName_80 : decode cX1_isName 80 = .ok (.istore_n 3, 1) := dk_62 (dk_at dksX1_isName_3 9 rfl rfl)
theorem dX1_isName_81 : decode cX1_isName 81 = .ok (.iinc 4 1, 3) := dk_132 4 1 (dk_at dksX1_isName_3 10 rfl rfl)
theorem dX1_isName_84 : decode cX1_isName 84 = .ok (.goto (-63), 3) := dk_167 255 193 (dk_at dksX1_isName_3 13 rfl rfl)
theorem dX1_isName_87 : decode cX1_isName 87 = .ok (.iload_n 3, 1) := dk_29 (dk_at dksX1_isName_3 16 rfl rfl)
theorem dX1_isName_88 : decode cX1_isName 88 = .ok (.ireturn, 1) := dk_172 (dk_at dksX1_isName_3 17 rfl rfl)
abbrev cX1_directory : ByteArray := prog_1_method_16_code
def yX1_directory : MethodName := ⟨RX1, "directory", "(ILNandHouse$Inode;)I"⟩
def dkwX1_directory_1 : List UInt8 := [167, 0, 4, 3, 172]
abbrev dktX1_directory_1 : List UInt8 := dkwX1_directory_1 ++ []
def dkwX1_directory_0 : List UInt8 := [42, 27, 44, 182, 0, 214, 154, 0, 8, 16, 252, 167, 0, 17, 44, 180, 0, 182, 4, 159, 0, 8, 16, 250]
abbrev dktX1_directory_0 : List UInt8 := dkwX1_directory_0 ++ dktX1_directory_1
theorem dksX1_directory_0 : cX1_directory.data.toList.drop 0 = dktX1_directory_0 := by decide +kernel
theorem dksX1_directory_1 : cX1_directory.data.toList.drop 24 = dktX1_directory_1 := dk_seg dksX1_directory_0 24 rfl rfl
theorem dX1_directory_0 : decode cX1_directory 0 = .ok (.aload_n 0, 1) := dk_42 (dk_at dksX1_directory_0 0 rfl rfl)
theorem dX1_directory_1 : decode cX1_directory 1 = .ok (.iload_n 1, 1) := dk_27 (dk_at dksX1_directory_0 1 rfl rfl)
theorem dX1_directory_2 : decode cX1_directory 2 = .ok (.aload_n 2, 1) := dk_44 (dk_at dksX1_directory_0 2 rfl rfl)
theorem dX1_directory_3 : decode cX1_directory 3 = .ok (.invokevirtual 214, 3) := dk_182 0 214 (dk_at dksX1_directory_0 3 rfl rfl)
theorem dX1_directory_6 : decode cX1_directory 6 = .ok (.ifCond .ne 8, 3) := dk_154 0 8 (dk_at dksX1_directory_0 6 rfl rfl)
theorem dX1_directory_9 : decode cX1_directory 9 = .ok (.bipush (-4), 2) := dk_16 252 (dk_at dksX1_directory_0 9 rfl rfl)
theorem dX1_directory_11 : decode cX1_directory 11 = .ok (.goto 17, 3) := dk_167 0 17 (dk_at dksX1_directory_0 11 rfl rfl)
theorem dX1_directory_14 : decode cX1_directory 14 = .ok (.aload_n 2, 1) := dk_44 (dk_at dksX1_directory_0 14 rfl rfl)
theorem dX1_directory_15 : decode cX1_directory 15 = .ok (.getfield 182, 3) := dk_180 0 182 (dk_at dksX1_directory_0 15 rfl rfl)
theorem dX1_directory_18 : decode cX1_directory 18 = .ok (.iconst 1, 1) := dk_4 (dk_at dksX1_directory_0 18 rfl rfl)
theorem dX1_directory_19 : decode cX1_directory 19 = .ok (.if_icmp .eq 8, 3) := dk_159 0 8 (dk_at dksX1_directory_0 19 rfl rfl)
theorem dX1_directory_22 : decode cX1_directory 22 = .ok (.bipush (-6), 2) := dk_16 250 (dk_at dksX1_directory_0 22 rfl rfl)
theorem dX1_directory_24 : decode cX1_directory 24 = .ok (.goto 4, 3) := dk_167 0 4 (dk_at dksX1_directory_1 0 rfl rfl)
theorem dX1_directory_27 : decode cX1_directory 27 = .ok (.iconst 0, 1) := dk_3 (dk_at dksX1_directory_1 3 rfl rfl)
theorem dX1_directory_28 : decode cX1_directory 28 = .ok (.ireturn, 1) := dk_172 (dk_at dksX1_directory_1 4 rfl rfl)
abbrev cX1_read : ByteArray := prog_1_method_13_code
def yX1_read : MethodName := ⟨RX1, "read", "(ILNandHouse$Inode;)Z"⟩
def dkwX1_read_5 : List UInt8 := [182, 0, 178, 181, 0, 189, 44, 42, 180, 0, 111, 180, 0, 170, 16, 20, 182, 0, 178, 181, 0, 192, 4, 172]
abbrev dktX1_read_5 : List UInt8 := dkwX1_read_5 ++ []
def dkwX1_read_4 : List UInt8 := [180, 0, 111, 180, 0, 170, 16, 12, 182, 0, 178, 181, 0, 188, 44, 42, 180, 0, 111, 180, 0, 170, 16, 16]
abbrev dktX1_read_4 : List UInt8 := dkwX1_read_4 ++ dktX1_read_5
def dkwX1_read_3 : List UInt8 := [182, 0, 178, 181, 0, 182, 44, 42, 180, 0, 111, 180, 0, 170, 16, 8, 182, 0, 178, 181, 0, 185, 44, 42]
abbrev dktX1_read_3 : List UInt8 := dkwX1_read_3 ++ dktX1_read_4
def dkwX1_read_2 : List UInt8 := [180, 0, 111, 180, 0, 170, 182, 0, 173, 44, 27, 181, 0, 177, 44, 42, 180, 0, 111, 180, 0, 170, 7]
abbrev dktX1_read_2 : List UInt8 := dkwX1_read_2 ++ dktX1_read_3
def dkwX1_read_1 : List UInt8 := [154, 0, 5, 3, 172, 42, 180, 0, 111, 45, 180, 0, 164, 45, 180, 0, 167, 45, 180, 0, 146, 42]
abbrev dktX1_read_1 : List UInt8 := dkwX1_read_1 ++ dktX1_read_2
def dkwX1_read_0 : List UInt8 := [42, 180, 0, 111, 180, 0, 136, 78, 27, 4, 161, 0, 16, 45, 27, 3, 184, 0, 157, 9, 182, 0, 161]
abbrev dktX1_read_0 : List UInt8 := dkwX1_read_0 ++ dktX1_read_1
theorem dksX1_read_0 : cX1_read.data.toList.drop 0 = dktX1_read_0 := by decide +kernel
theorem dksX1_read_1 : cX1_read.data.toList.drop 23 = dktX1_read_1 := dk_seg dksX1_read_0 23 rfl rfl
theorem dksX1_read_2 : cX1_read.data.toList.drop 45 = dktX1_read_2 := dk_seg dksX1_read_1 22 rfl rfl
theorem dksX1_read_3 : cX1_read.data.toList.drop 68 = dktX1_read_3 := dk_seg dksX1_read_2 23 rfl rfl
theorem dksX1_read_4 : cX1_read.data.toList.drop 92 = dktX1_read_4 := dk_seg dksX1_read_3 24 rfl rfl
theorem dksX1_read_5 : cX1_read.data.toList.drop 116 = dktX1_read_5 := dk_seg dksX1_read_4 24 rfl rfl
theorem dX1_read_0 : decode cX1_read 0 = .ok (.aload_n 0, 1) := dk_42 (dk_at dksX1_read_0 0 rfl rfl)
theorem dX1_read_1 : decode cX1_read 1 = .ok (.getfield 111, 3) := dk_180 0 111 (dk_at dksX1_read_0 1 rfl rfl)
theorem dX1_read_4 : decode cX1_read 4 = .ok (.getfield 136, 3) := dk_180 0 136 (dk_at dksX1_read_0 4 rfl rfl)
theorem dX1_read_7 : decode cX1_read 7 = .ok (.astore_n 3, 1) := dk_78 (dk_at dksX1_read_0 7 rfl rfl)
theorem dX1_read_8 : decode cX1_read 8 = .ok (.iload_n 1, 1) := dk_27 (dk_at dksX1_read_0 8 rfl rfl)
theorem dX1_read_9 : decode cX1_read 9 = .ok (.iconst 1, 1) := dk_4 (dk_at dksX1_read_0 9 rfl rfl)
theorem dX1_read_10 : decode cX1_read 10 = .ok (.if_icmp .lt 16, 3) := dk_161 0 16 (dk_at dksX1_read_0 10 rfl rfl)
theorem dX1_read_13 : decode cX1_read 13 = .ok (.aload_n 3, 1) := dk_45 (dk_at dksX1_read_0 13 rfl rfl)
theorem dX1_read_14 : decode cX1_read 14 = .ok (.iload_n 1, 1) := dk_27 (dk_at dksX1_read_0 14 rfl rfl)
theorem dX1_read_15 : decode cX1_read 15 = .ok (.iconst 0, 1) := dk_3 (dk_at dksX1_read_0 15 rfl rfl)
theorem dX1_read_16 : decode cX1_read 16 = .ok (.invokestatic 157, 3) := dk_184 0 157 (dk_at dksX1_read_0 16 rfl rfl)
theorem dX1_read_19 : decode cX1_read 19 = .ok (.lconst 0, 1) := dk_9 (dk_at dksX1_read_0 19 rfl rfl)
theorem dX1_read_20 : decode cX1_read 20 = .ok (.invokevirtual 161, 3) := dk_182 0 161 (dk_at dksX1_read_0 20 rfl rfl)
theorem dX1_read_23 : decode cX1_read 23 = .ok (.ifCond .ne 5, 3) := dk_154 0 5 (dk_at dksX1_read_1 0 rfl rfl)
theorem dX1_read_26 : decode cX1_read 26 = .ok (.iconst 0, 1) := dk_3 (dk_at dksX1_read_1 3 rfl rfl)
theorem dX1_read_27 : decode cX1_read 27 = .ok (.ireturn, 1) := dk_172 (dk_at dksX1_read_1 4 rfl rfl)
theorem dX1_read_28 : decode cX1_read 28 = .ok (.aload_n 0, 1) := dk_42 (dk_at dksX1_read_1 5 rfl rfl)
theorem dX1_read_29 : decode cX1_read 29 = .ok (.getfield 111, 3) := dk_180 0 111 (dk_at dksX1_read_1 6 rfl rfl)
theorem dX1_read_32 : decode cX1_read 32 = .ok (.aload_n 3, 1) := dk_45 (dk_at dksX1_read_1 9 rfl rfl)
theorem dX1_read_33 : decode cX1_read 33 = .ok (.getfield 164, 3) := dk_180 0 164 (dk_at dksX1_read_1 10 rfl rfl)
theorem dX1_read_36 : decode cX1_read 36 = .ok (.aload_n 3, 1) := dk_45 (dk_at dksX1_read_1 13 rfl rfl)
theorem dX1_read_37 : decode cX1_read 37 = .ok (.getfield 167, 3) := dk_180 0 167 (dk_at dksX1_read_1 14 rfl rfl)
theorem dX1_read_40 : decode cX1_read 40 = .ok (.aload_n 3, 1) := dk_45 (dk_at dksX1_read_1 17 rfl rfl)
theorem dX1_read_41 : decode cX1_read 41 = .ok (.getfield 146, 3) := dk_180 0 146 (dk_at dksX1_read_1 18 rfl rfl)
theorem dX1_read_44 : decode cX1_read 44 = .ok (.aload_n 0, 1) := dk_42 (dk_at dksX1_read_1 21 rfl rfl)
theorem dX1_read_45 : decode cX1_read 45 = .ok (.getfield 111, 3) := dk_180 0 111 (dk_at dksX1_read_2 0 rfl rfl)
theorem dX1_read_48 : decode cX1_read 48 = .ok (.getfield 170, 3) := dk_180 0 170 (dk_at dksX1_read_2 3 rfl rfl)
theorem dX1_read_51 : decode cX1_read 51 = .ok (.invokevirtual 173, 3) := dk_182 0 173 (dk_at dksX1_read_2 6 rfl rfl)
theorem dX1_read_54 : decode cX1_read 54 = .ok (.aload_n 2, 1) := dk_44 (dk_at dksX1_read_2 9 rfl rfl)
theorem dX1_read_55 : decode cX1_read 55 = .ok (.iload_n 1, 1) := dk_27 (dk_at dksX1_read_2 10 rfl rfl)
theorem dX1_read_56 : decode cX1_read 56 = .ok (.putfield 177, 3) := dk_181 0 177 (dk_at dksX1_read_2 11 rfl rfl)
theorem dX1_read_59 : decode cX1_read 59 = .ok (.aload_n 2, 1) := dk_44 (dk_at dksX1_read_2 14 rfl rfl)
theorem dX1_read_60 : decode cX1_read 60 = .ok (.aload_n 0, 1) := dk_42 (dk_at dksX1_read_2 15 rfl rfl)
theorem dX1_read_61 : decode cX1_read 61 = .ok (.getfield 111, 3) := dk_180 0 111 (dk_at dksX1_read_2 16 rfl rfl)
theorem dX1_read_64 : decode cX1_read 64 = .ok (.getfield 170, 3) := dk_180 0 170 (dk_at dksX1_read_2 19 rfl rfl)
theorem dX1_read_67 : decode cX1_read 67 = .ok (.iconst 4, 1) := dk_7 (dk_at dksX1_read_2 22 rfl rfl)
theorem dX1_read_68 : decode cX1_read 68 = .ok (.invokevirtual 178, 3) := dk_182 0 178 (dk_at dksX1_read_3 0 rfl rfl)
theorem dX1_read_71 : decode cX1_read 71 = .ok (.putfield 182, 3) := dk_181 0 182 (dk_at dksX1_read_3 3 rfl rfl)
theorem dX1_read_74 : decode cX1_read 74 = .ok (.aload_n 2, 1) := dk_44 (dk_at dksX1_read_3 6 rfl rfl)
theorem dX1_read_75 : decode cX1_read 75 = .ok (.aload_n 0, 1) := dk_42 (dk_at dksX1_read_3 7 rfl rfl)
theorem dX1_read_76 : decode cX1_read 76 = .ok (.getfield 111, 3) := dk_180 0 111 (dk_at dksX1_read_3 8 rfl rfl)
theorem dX1_read_79 : decode cX1_read 79 = .ok (.getfield 170, 3) := dk_180 0 170 (dk_at dksX1_read_3 11 rfl rfl)
theorem dX1_read_82 : decode cX1_read 82 = .ok (.bipush 8, 2) := dk_16 8 (dk_at dksX1_read_3 14 rfl rfl)
theorem dX1_read_84 : decode cX1_read 84 = .ok (.invokevirtual 178, 3) := dk_182 0 178 (dk_at dksX1_read_3 16 rfl rfl)
theorem dX1_read_87 : decode cX1_read 87 = .ok (.putfield 185, 3) := dk_181 0 185 (dk_at dksX1_read_3 19 rfl rfl)
theorem dX1_read_90 : decode cX1_read 90 = .ok (.aload_n 2, 1) := dk_44 (dk_at dksX1_read_3 22 rfl rfl)
theorem dX1_read_91 : decode cX1_read 91 = .ok (.aload_n 0, 1) := dk_42 (dk_at dksX1_read_3 23 rfl rfl)
theorem dX1_read_92 : decode cX1_read 92 = .ok (.getfield 111, 3) := dk_180 0 111 (dk_at dksX1_read_4 0 rfl rfl)
theorem dX1_read_95 : decode cX1_read 95 = .ok (.getfield 170, 3) := dk_180 0 170 (dk_at dksX1_read_4 3 rfl rfl)
theorem dX1_read_98 : decode cX1_read 98 = .ok (.bipush 12, 2) := dk_16 12 (dk_at dksX1_read_4 6 rfl rfl)
theorem dX1_read_100 : decode cX1_read 100 = .ok (.invokevirtual 178, 3) := dk_182 0 178 (dk_at dksX1_read_4 8 rfl rfl)
theorem dX1_read_103 : decode cX1_read 103 = .ok (.putfield 188, 3) := dk_181 0 188 (dk_at dksX1_read_4 11 rfl rfl)
theorem dX1_read_106 : decode cX1_read 106 = .ok (.aload_n 2, 1) := dk_44 (dk_at dksX1_read_4 14 rfl rfl)
theorem dX1_read_107 : decode cX1_read 107 = .ok (.aload_n 0, 1) := dk_42 (dk_at dksX1_read_4 15 rfl rfl)
theorem dX1_read_108 : decode cX1_read 108 = .ok (.getfield 111, 3) := dk_180 0 111 (dk_at dksX1_read_4 16 rfl rfl)
theorem dX1_read_111 : decode cX1_read 111 = .ok (.getfield 170, 3) := dk_180 0 170 (dk_at dksX1_read_4 19 rfl rfl)
theorem dX1_read_114 : decode cX1_read 114 = .ok (.bipush 16, 2) := dk_16 16 (dk_at dksX1_read_4 22 rfl rfl)
theorem dX1_read_116 : decode cX1_read 116 = .ok (.invokevirtual 178, 3) := dk_182 0 178 (dk_at dksX1_read_5 0 rfl rfl)
theorem dX1_read_119 : decode cX1_read 119 = .ok (.putfield 189, 3) := dk_181 0 189 (dk_at dksX1_read_5 3 rfl rfl)
theorem dX1_read_122 : decode cX1_read 122 = .ok (.aload_n 2, 1) := dk_44 (dk_at dksX1_read_5 6 rfl rfl)
theorem dX1_read_123 : decode cX1_read 123 = .ok (.aload_n 0, 1) := dk_42 (dk_at dksX1_read_5 7 rfl rfl)
theorem dX1_read_124 : decode cX1_read 124 = .ok (.getfield 111, 3) := dk_180 0 111 (dk_at dksX1_read_5 8 rfl rfl)
theorem dX1_read_127 : decode cX1_read 127 = .ok (.getfield 170, 3) := dk_180 0 170 (dk_at dksX1_read_5 11 rfl rfl)
theorem dX1_read_130 : decode cX1_read 130 = .ok (.bipush 20, 2) := dk_16 20 (dk_at dksX1_read_5 14 rfl rfl)
theorem dX1_read_132 : decode cX1_read 132 = .ok (.invokevirtual 178, 3) := dk_182 0 178 (dk_at dksX1_read_5 16 rfl rfl)
theorem dX1_read_135 : decode cX1_read 135 = .ok (.putfield 192, 3) := dk_181 0 192 (dk_at dksX1_read_5 19 rfl rfl)
theorem dX1_read_138 : decode cX1_read 138 = .ok (.iconst 1, 1) := dk_4 (dk_at dksX1_read_5 22 rfl rfl)
theorem dX1_read_139 : decode cX1_read 139 = .ok (.ireturn, 1) := dk_172 (dk_at dksX1_read_5 23 rfl rfl)
abbrev cX1_entry : ByteArray := prog_1_method_15_code
def yX1_entry : MethodName := ⟨RX1, "entry", "(IJ)I"⟩
def dkwX1_entry_7 : List UInt8 := [182, 0, 153, 54, 9, 167, 255, 126, 42, 42, 180, 0, 201, 181, 0, 207, 3, 172]
abbrev dktX1_entry_7 : List UInt8 := dkwX1_entry_7 ++ []
def dkwX1_entry_6 : List UInt8 := [182, 0, 210, 32, 148, 154, 0, 15, 42, 180, 0, 111, 180, 0, 170, 7, 182, 0, 178, 172, 25, 4]
abbrev dktX1_entry_6 : List UInt8 := dkwX1_entry_6 ++ dktX1_entry_7
def dkwX1_entry_5 : List UInt8 := [180, 0, 146, 42, 180, 0, 111, 180, 0, 170, 182, 0, 173, 42, 180, 0, 111, 180, 0, 170, 16, 8]
abbrev dktX1_entry_5 : List UInt8 := dkwX1_entry_5 ++ dktX1_entry_6
def dkwX1_entry_4 : List UInt8 := [180, 0, 201, 4, 96, 181, 0, 201, 42, 180, 0, 111, 25, 4, 180, 0, 164, 25, 4, 180, 0, 167, 25, 4]
abbrev dktX1_entry_4 : List UInt8 := dkwX1_entry_4 ++ dktX1_entry_5
def dkwX1_entry_3 : List UInt8 := [180, 0, 204, 22, 7, 101, 136, 181, 0, 207, 42, 180, 0, 207, 42, 180, 0, 201, 160, 0, 13, 42, 89]
abbrev dktX1_entry_3 : List UInt8 := dkwX1_entry_3 ++ dktX1_entry_4
def dkwX1_entry_2 : List UInt8 := [22, 5, 148, 154, 0, 120, 25, 4, 180, 0, 204, 22, 7, 20, 0, 20, 97, 148, 156, 0, 105, 42, 25, 4]
abbrev dktX1_entry_2 : List UInt8 := dkwX1_entry_2 ++ dktX1_entry_3
def dkwX1_entry_1 : List UInt8 := [181, 0, 201, 25, 4, 22, 5, 22, 7, 182, 0, 140, 54, 9, 21, 9, 153, 0, 131, 25, 4, 180, 0, 149]
abbrev dktX1_entry_1 : List UInt8 := dkwX1_entry_1 ++ dktX1_entry_2
def dkwX1_entry_0 : List UInt8 := [42, 180, 0, 111, 180, 0, 136, 58, 4, 27, 5, 184, 0, 157, 55, 5, 32, 184, 0, 197, 55, 7, 42, 3]
abbrev dktX1_entry_0 : List UInt8 := dkwX1_entry_0 ++ dktX1_entry_1
theorem dksX1_entry_0 : cX1_entry.data.toList.drop 0 = dktX1_entry_0 := by decide +kernel
theorem dksX1_entry_1 : cX1_entry.data.toList.drop 24 = dktX1_entry_1 := dk_seg dksX1_entry_0 24 rfl rfl
theorem dksX1_entry_2 : cX1_entry.data.toList.drop 48 = dktX1_entry_2 := dk_seg dksX1_entry_1 24 rfl rfl
theorem dksX1_entry_3 : cX1_entry.data.toList.drop 72 = dktX1_entry_3 := dk_seg dksX1_entry_2 24 rfl rfl
theorem dksX1_entry_4 : cX1_entry.data.toList.drop 95 = dktX1_entry_4 := dk_seg dksX1_entry_3 23 rfl rfl
theorem dksX1_entry_5 : cX1_entry.data.toList.drop 119 = dktX1_entry_5 := dk_seg dksX1_entry_4 24 rfl rfl
theorem dksX1_entry_6 : cX1_entry.data.toList.drop 141 = dktX1_entry_6 := dk_seg dksX1_entry_5 22 rfl rfl
theorem dksX1_entry_7 : cX1_entry.data.toList.drop 163 = dktX1_entry_7 := dk_seg dksX1_entry_6 22 rfl rfl
theorem dX1_entry_0 : decode cX1_entry 0 = .ok (.aload_n 0, 1) := dk_42 (dk_at dksX1_entry_0 0 rfl rfl)
theorem dX1_entry_1 : decode cX1_entry 1 = .ok (.getfield 111, 3) := dk_180 0 111 (dk_at dksX1_entry_0 1 rfl rfl)
theorem dX1_entry_4 : decode cX1_entry 4 = .ok (.getfield 136, 3) := dk_180 0 136 (dk_at dksX1_entry_0 4 rfl rfl)
theorem dX1_entry_7 : decode cX1_entry 7 = .ok (.astore 4, 2) := dk_58 4 (dk_at dksX1_entry_0 7 rfl rfl)
theorem dX1_entry_9 : decode cX1_entry 9 = .ok (.iload_n 1, 1) := dk_27 (dk_at dksX1_entry_0 9 rfl rfl)
theorem dX1_entry_10 : decode cX1_entry 10 = .ok (.iconst 2, 1) := dk_5 (dk_at dksX1_entry_0 10 rfl rfl)
theorem dX1_entry_11 : decode cX1_entry 11 = .ok (.invokestatic 157, 3) := dk_184 0 157 (dk_at dksX1_entry_0 11 rfl rfl)
theorem dX1_entry_14 : decode cX1_entry 14 = .ok (.lstore 5, 2) := dk_55 5 (dk_at dksX1_entry_0 14 rfl rfl)
theorem dX1_entry_16 : decode cX1_entry 16 = .ok (.lload_n 2, 1) := dk_32 (dk_at dksX1_entry_0 16 rfl rfl)
theorem dX1_entry_17 : decode cX1_entry 17 = .ok (.invokestatic 197, 3) := dk_184 0 197 (dk_at dksX1_entry_0 17 rfl rfl)
theorem dX1_entry_20 : decode cX1_entry 20 = .ok (.lstore 7, 2) := dk_55 7 (dk_at dksX1_entry_0 20 rfl rfl)
theorem dX1_entry_22 : decode cX1_entry 22 = .ok (.aload_n 0, 1) := dk_42 (dk_at dksX1_entry_0 22 rfl rfl)
theorem dX1_entry_23 : decode cX1_entry 23 = .ok (.iconst 0, 1) := dk_3 (dk_at dksX1_entry_0 23 rfl rfl)
theorem dX1_entry_24 : decode cX1_entry 24 = .ok (.putfield 201, 3) := dk_181 0 201 (dk_at dksX1_entry_1 0 rfl rfl)
theorem dX1_entry_27 : decode cX1_entry 27 = .ok (.aload 4, 2) := dk_25 4 (dk_at dksX1_entry_1 3 rfl rfl)
theorem dX1_entry_29 : decode cX1_entry 29 = .ok (.lload 5, 2) := dk_22 5 (dk_at dksX1_entry_1 5 rfl rfl)
theorem dX1_entry_31 : decode cX1_entry 31 = .ok (.lload 7, 2) := dk_22 7 (dk_at dksX1_entry_1 7 rfl rfl)
theorem dX1_entry_33 : decode cX1_entry 33 = .ok (.invokevirtual 140, 3) := dk_182 0 140 (dk_at dksX1_entry_1 9 rfl rfl)
theorem dX1_entry_36 : decode cX1_entry 36 = .ok (.istore 9, 2) := dk_54 9 (dk_at dksX1_entry_1 12 rfl rfl)
theorem dX1_entry_38 : decode cX1_entry 38 = .ok (.iload 9, 2) := dk_21 9 (dk_at dksX1_entry_1 14 rfl rfl)
theorem dX1_entry_40 : decode cX1_entry 40 = .ok (.ifCond .eq 131, 3) := dk_153 0 131 (dk_at dksX1_entry_1 16 rfl rfl)
theorem dX1_entry_43 : decode cX1_entry 43 = .ok (.aload 4, 2) := dk_25 4 (dk_at dksX1_entry_1 19 rfl rfl)
theorem dX1_entry_45 : decode cX1_entry 45 = .ok (.getfield 149, 3) := dk_180 0 149 (dk_at dksX1_entry_1 21 rfl rfl)
theorem dX1_entry_48 : decode cX1_entry 48 = .ok (.lload 5, 2) := dk_22 5 (dk_at dksX1_entry_2 0 rfl rfl)
theorem dX1_entry_50 : decode cX1_entry 50 = .ok (.lcmp, 1) := dk_148 (dk_at dksX1_entry_2 2 rfl rfl)
theorem dX1_entry_51 : decode cX1_entry 51 = .ok (.ifCond .ne 120, 3) := dk_154 0 120 (dk_at dksX1_entry_2 3 rfl rfl)
theorem dX1_entry_54 : decode cX1_entry 54 = .ok (.aload 4, 2) := dk_25 4 (dk_at dksX1_entry_2 6 rfl rfl)
theorem dX1_entry_56 : decode cX1_entry 56 = .ok (.getfield 204, 3) := dk_180 0 204 (dk_at dksX1_entry_2 8 rfl rfl)
theorem dX1_entry_59 : decode cX1_entry 59 = .ok (.lload 7, 2) := dk_22 7 (dk_at dksX1_entry_2 11 rfl rfl)
theorem dX1_entry_61 : decode cX1_entry 61 = .ok (.ldc2_w 20, 3) := dk_20 0 20 (dk_at dksX1_entry_2 13 rfl rfl)
theorem dX1_entry_64 : decode cX1_entry 64 = .ok (.ladd, 1) := dk_97 (dk_at dksX1_entry_2 16 rfl rfl)
theorem dX1_entry_65 : decode cX1_entry 65 = .ok (.lcmp, 1) := dk_148 (dk_at dksX1_entry_2 17 rfl rfl)
theorem dX1_entry_66 : decode cX1_entry 66 = .ok (.ifCond .ge 105, 3) := dk_156 0 105 (dk_at dksX1_entry_2 18 rfl rfl)
theorem dX1_entry_69 : decode cX1_entry 69 = .ok (.aload_n 0, 1) := dk_42 (dk_at dksX1_entry_2 21 rfl rfl)
theorem dX1_entry_70 : decode cX1_entry 70 = .ok (.aload 4, 2) := dk_25 4 (dk_at dksX1_entry_2 22 rfl rfl)
theorem dX1_entry_72 : decode cX1_entry 72 = .ok (.getfield 204, 3) := dk_180 0 204 (dk_at dksX1_entry_3 0 rfl rfl)
theorem dX1_entry_75 : decode cX1_entry 75 = .ok (.lload 7, 2) := dk_22 7 (dk_at dksX1_entry_3 3 rfl rfl)
theorem dX1_entry_77 : decode cX1_entry 77 = .ok (.lsub, 1) := dk_101 (dk_at dksX1_entry_3 5 rfl rfl)
theorem dX1_entry_78 : decode cX1_entry 78 = .ok (.l2i, 1) := dk_136 (dk_at dksX1_entry_3 6 rfl rfl)
theorem dX1_entry_79 : decode cX1_entry 79 = .ok (.putfield 207, 3) := dk_181 0 207 (dk_at dksX1_entry_3 7 rfl rfl)
theorem dX1_entry_82 : decode cX1_entry 82 = .ok (.aload_n 0, 1) := dk_42 (dk_at dksX1_entry_3 10 rfl rfl)
theorem dX1_entry_83 : decode cX1_entry 83 = .ok (.getfield 207, 3) := dk_180 0 207 (dk_at dksX1_entry_3 11 rfl rfl)
theorem dX1_entry_86 : decode cX1_entry 86 = .ok (.aload_n 0, 1) := dk_42 (dk_at dksX1_entry_3 14 rfl rfl)
theorem dX1_entry_87 : decode cX1_entry 87 = .ok (.getfield 201, 3) := dk_180 0 201 (dk_at dksX1_entry_3 15 rfl rfl)
theorem dX1_entry_90 : decode cX1_entry 90 = .ok (.if_icmp .ne 13, 3) := dk_160 0 13 (dk_at dksX1_entry_3 18 rfl rfl)
theorem dX1_entry_93 : decode cX1_entry 93 = .ok (.aload_n 0, 1) := dk_42 (dk_at dksX1_entry_3 21 rfl rfl)
theorem dX1_entry_94 : decode cX1_entry 94 = .ok (.dup, 1) := dk_89 (dk_at dksX1_entry_3 22 rfl rfl)
theorem dX1_entry_95 : decode cX1_entry 95 = .ok (.getfield 201, 3) := dk_180 0 201 (dk_at dksX1_entry_4 0 rfl rfl)
theorem dX1_entry_98 : decode cX1_entry 98 = .ok (.iconst 1, 1) := dk_4 (dk_at dksX1_entry_4 3 rfl rfl)
theorem dX1_entry_99 : decode cX1_entry 99 = .ok (.iadd, 1) := dk_96 (dk_at dksX1_entry_4 4 rfl rfl)
theorem dX1_entry_100 : decode cX1_entry 100 = .ok (.putfield 201, 3) := dk_181 0 201 (dk_at dksX1_entry_4 5 rfl rfl)
theorem dX1_entry_103 : decode cX1_entry 103 = .ok (.aload_n 0, 1) := dk_42 (dk_at dksX1_entry_4 8 rfl rfl)
theorem dX1_entry_104 : decode cX1_entry 104 = .ok (.getfield 111, 3) := dk_180 0 111 (dk_at dksX1_entry_4 9 rfl rfl)
theorem dX1_entry_107 : decode cX1_entry 107 = .ok (.aload 4, 2) := dk_25 4 (dk_at dksX1_entry_4 12 rfl rfl)
theorem dX1_entry_109 : decode cX1_entry 109 = .ok (.getfield 164, 3) := dk_180 0 164 (dk_at dksX1_entry_4 14 rfl rfl)
theorem dX1_entry_112 : decode cX1_entry 112 = .ok (.aload 4, 2) := dk_25 4 (dk_at dksX1_entry_4 17 rfl rfl)
theorem dX1_entry_114 : decode cX1_entry 114 = .ok (.getfield 167, 3) := dk_180 0 167 (dk_at dksX1_entry_4 19 rfl rfl)
theorem dX1_entry_117 : decode cX1_entry 117 = .ok (.aload 4, 2) := dk_25 4 (dk_at dksX1_entry_4 22 rfl rfl)
theorem dX1_entry_119 : decode cX1_entry 119 = .ok (.getfield 146, 3) := dk_180 0 146 (dk_at dksX1_entry_5 0 rfl rfl)
theorem dX1_entry_122 : decode cX1_entry 122 = .ok (.aload_n 0, 1) := dk_42 (dk_at dksX1_entry_5 3 rfl rfl)
theorem dX1_entry_123 : decode cX1_entry 123 = .ok (.getfield 111, 3) := dk_180 0 111 (dk_at dksX1_entry_5 4 rfl rfl)
theorem dX1_entry_126 : decode cX1_entry 126 = .ok (.getfield 170, 3) := dk_180 0 170 (dk_at dksX1_entry_5 7 rfl rfl)
theorem dX1_entry_129 : decode cX1_entry 129 = .ok (.invokevirtual 173, 3) := dk_182 0 173 (dk_at dksX1_entry_5 10 rfl rfl)
theorem dX1_entry_132 : decode cX1_entry 132 = .ok (.aload_n 0, 1) := dk_42 (dk_at dksX1_entry_5 13 rfl rfl)
theorem dX1_entry_133 : decode cX1_entry 133 = .ok (.getfield 111, 3) := dk_180 0 111 (dk_at dksX1_entry_5 14 rfl rfl)
theorem dX1_entry_136 : decode cX1_entry 136 = .ok (.getfield 170, 3) := dk_180 0 170 (dk_at dksX1_entry_5 17 rfl rfl)
theorem dX1_entry_139 : decode cX1_entry 139 = .ok (.bipush 8, 2) := dk_16 8 (dk_at dksX1_entry_5 20 rfl rfl)
theorem dX1_entry_141 : decode cX1_entry 141 = .ok (.invokevirtual 210, 3) := dk_182 0 210 (dk_at dksX1_entry_6 0 rfl rfl)
theorem dX1_entry_144 : decode cX1_entry 144 = .ok (.lload_n 2, 1) := dk_32 (dk_at dksX1_entry_6 3 rfl rfl)
theorem dX1_entry_145 : decode cX1_entry 145 = .ok (.lcmp, 1) := dk_148 (dk_at dksX1_entry_6 4 rfl rfl)
theorem dX1_entry_146 : decode cX1_entry 146 = .ok (.ifCond .ne 15, 3) := dk_154 0 15 (dk_at dksX1_entry_6 5 rfl rfl)
theorem dX1_entry_149 : decode cX1_entry 149 = .ok (.aload_n 0, 1) := dk_42 (dk_at dksX1_entry_6 8 rfl rfl)
theorem dX1_entry_150 : decode cX1_entry 150 = .ok (.getfield 111, 3) := dk_180 0 111 (dk_at dksX1_entry_6 9 rfl rfl)
theorem dX1_entry_153 : decode cX1_entry 153 = .ok (.getfield 170, 3) := dk_180 0 170 (dk_at dksX1_entry_6 12 rfl rfl)
theorem dX1_entry_156 : decode cX1_entry 156 = .ok (.iconst 4, 1) := dk_7 (dk_at dksX1_entry_6 15 rfl rfl)
theorem dX1_entry_157 : decode cX1_entry 157 = .ok (.invokevirtual 178, 3) := dk_182 0 178 (dk_at dksX1_entry_6 16 rfl rfl)
theorem dX1_entry_160 : decode cX1_entry 160 = .ok (.ireturn, 1) := dk_172 (dk_at dksX1_entry_6 19 rfl rfl)
theorem dX1_entry_161 : decode cX1_entry 161 = .ok (.aload 4, 2) := dk_25 4 (dk_at dksX1_entry_6 20 rfl rfl)
theorem dX1_entry_163 : decode cX1_entry 163 = .ok (.invokevirtual 153, 3) := dk_182 0 153 (dk_at dksX1_entry_7 0 rfl rfl)
theorem dX1_entry_166 : decode cX1_entry 166 = .ok (.istore 9, 2) := dk_54 9 (dk_at dksX1_entry_7 3 rfl rfl)
theorem dX1_entry_168 : decode cX1_entry 168 = .ok (.goto (-130), 3) := dk_167 255 126 (dk_at dksX1_entry_7 5 rfl rfl)
theorem dX1_entry_171 : decode cX1_entry 171 = .ok (.aload_n 0, 1) := dk_42 (dk_at dksX1_entry_7 8 rfl rfl)
theorem dX1_entry_172 : decode cX1_entry 172 = .ok (.aload_n 0, 1) := dk_42 (dk_at dksX1_entry_7 9 rfl rfl)
theorem dX1_entry_173 : decode cX1_entry 173 = .ok (.getfield 201, 3) := dk_180 0 201 (dk_at dksX1_entry_7 10 rfl rfl)
theorem dX1_entry_176 : decode cX1_entry 176 = .ok (.putfield 207, 3) := dk_181 0 207 (dk_at dksX1_entry_7 13 rfl rfl)
theorem dX1_entry_179 : decode cX1_entry 179 = .ok (.iconst 0, 1) := dk_3 (dk_at dksX1_entry_7 16 rfl rfl)
theorem dX1_entry_180 : decode cX1_entry 180 = .ok (.ireturn, 1) := dk_172 (dk_at dksX1_entry_7 17 rfl rfl)
abbrev cX1_hash : ByteArray := prog_1_method_10_code
def yX1_hash : MethodName := ⟨RX1, "hash", "(J)J"⟩
def dkwX1_hash_2 : List UInt8 := [167, 255, 214, 28, 17, 3, 255, 126, 133, 20, 0, 20, 105, 173]
abbrev dktX1_hash_2 : List UInt8 := dkwX1_hash_2 ++ []
def dkwX1_hash_1 : List UInt8 := [21, 4, 153, 0, 18, 28, 21, 4, 7, 120, 96, 21, 4, 7, 122, 96, 16, 11, 104, 61, 132, 3, 1]
abbrev dktX1_hash_1 : List UInt8 := dkwX1_hash_1 ++ dktX1_hash_2
def dkwX1_hash_0 : List UInt8 := [3, 61, 3, 62, 29, 16, 8, 162, 0, 42, 30, 16, 8, 29, 104, 125, 136, 17, 0, 255, 126, 54, 4]
abbrev dktX1_hash_0 : List UInt8 := dkwX1_hash_0 ++ dktX1_hash_1
theorem dksX1_hash_0 : cX1_hash.data.toList.drop 0 = dktX1_hash_0 := by decide +kernel
theorem dksX1_hash_1 : cX1_hash.data.toList.drop 23 = dktX1_hash_1 := dk_seg dksX1_hash_0 23 rfl rfl
theorem dksX1_hash_2 : cX1_hash.data.toList.drop 46 = dktX1_hash_2 := dk_seg dksX1_hash_1 23 rfl rfl
theorem dX1_hash_0 : decode cX1_hash 0 = .ok (.iconst 0, 1) := dk_3 (dk_at dksX1_hash_0 0 rfl rfl)
theorem dX1_hash_1 : decode cX1_hash 1 = .ok (.istore_n 2, 1) := dk_61 (dk_at dksX1_hash_0 1 rfl rfl)
theorem dX1_hash_2 : decode cX1_hash 2 = .ok (.iconst 0, 1) := dk_3 (dk_at dksX1_hash_0 2 rfl rfl)
theorem dX1_hash_3 : decode cX1_hash 3 = .ok (.istore_n 3, 1) := dk_62 (dk_at dksX1_hash_0 3 rfl rfl)
theorem dX1_hash_4 : decode cX1_hash 4 = .ok (.iload_n 3, 1) := dk_29 (dk_at dksX1_hash_0 4 rfl rfl)
theorem dX1_hash_5 : decode cX1_hash 5 = .ok (.bipush 8, 2) := dk_16 8 (dk_at dksX1_hash_0 5 rfl rfl)
theorem dX1_hash_7 : decode cX1_hash 7 = .ok (.if_icmp .ge 42, 3) := dk_162 0 42 (dk_at dksX1_hash_0 7 rfl rfl)
theorem dX1_hash_10 : decode cX1_hash 10 = .ok (.lload_n 0, 1) := dk_30 (dk_at dksX1_hash_0 10 rfl rfl)
theorem dX1_hash_11 : decode cX1_hash 11 = .ok (.bipush 8, 2) := dk_16 8 (dk_at dksX1_hash_0 11 rfl rfl)
theorem dX1_hash_13 : decode cX1_hash 13 = .ok (.iload_n 3, 1) := dk_29 (dk_at dksX1_hash_0 13 rfl rfl)
theorem dX1_hash_14 : decode cX1_hash 14 = .ok (.imul, 1) := dk_104 (dk_at dksX1_hash_0 14 rfl rfl)
theorem dX1_hash_15 : decode cX1_hash 15 = .ok (.lushr, 1) := dk_125 (dk_at dksX1_hash_0 15 rfl rfl)
theorem dX1_hash_16 : decode cX1_hash 16 = .ok (.l2i, 1) := dk_136 (dk_at dksX1_hash_0 16 rfl rfl)
theorem dX1_hash_17 : decode cX1_hash 17 = .ok (.sipush 255, 3) := dk_17 0 255 (dk_at dksX1_hash_0 17 rfl rfl)
theorem dX1_hash_20 : decode cX1_hash 20 = .ok (.iand, 1) := dk_126 (dk_at dksX1_hash_0 20 rfl rfl)
theorem dX1_hash_21 : decode cX1_hash 21 = .ok (.istore 4, 2) := dk_54 4 (dk_at dksX1_hash_0 21 rfl rfl)
theorem dX1_hash_23 : decode cX1_hash 23 = .ok (.iload 4, 2) := dk_21 4 (dk_at dksX1_hash_1 0 rfl rfl)
theorem dX1_hash_25 : decode cX1_hash 25 = .ok (.ifCond .eq 18, 3) := dk_153 0 18 (dk_at dksX1_hash_1 2 rfl rfl)
theorem dX1_hash_28 : decode cX1_hash 28 = .ok (.iload_n 2, 1) := dk_28 (dk_at dksX1_hash_1 5 rfl rfl)
theorem dX1_hash_29 : decode cX1_hash 29 = .ok (.iload 4, 2) := dk_21 4 (dk_at dksX1_hash_1 6 rfl rfl)
theorem dX1_hash_31 : decode cX1_hash 31 = .ok (.iconst 4, 1) := dk_7 (dk_at dksX1_hash_1 8 rfl rfl)
theorem dX1_hash_32 : decode cX1_hash 32 = .ok (.ishl, 1) := dk_120 (dk_at dksX1_hash_1 9 rfl rfl)
theorem dX1_hash_33 : decode cX1_hash 33 = .ok (.iadd, 1) := dk_96 (dk_at dksX1_hash_1 10 rfl rfl)
theorem dX1_hash_34 : decode cX1_hash 34 = .ok (.iload 4, 2) := dk_21 4 (dk_at dksX1_hash_1 11 rfl rfl)
theorem dX1_hash_36 : decode cX1_hash 36 = .ok (.iconst 4, 1) := dk_7 (dk_at dksX1_hash_1 13 rfl rfl)
theorem dX1_hash_37 : decode cX1_hash 37 = .ok (.ishr, 1) := dk_122 (dk_at dksX1_hash_1 14 rfl rfl)
theorem dX1_hash_38 : decode cX1_hash 38 = .ok (.iadd, 1) := dk_96 (dk_at dksX1_hash_1 15 rfl rfl)
theorem dX1_hash_39 : decode cX1_hash 39 = .ok (.bipush 11, 2) := dk_16 11 (dk_at dksX1_hash_1 16 rfl rfl)
theorem dX1_hash_41 : decode cX1_hash 41 = .ok (.imul, 1) := dk_104 (dk_at dksX1_hash_1 18 rfl rfl)
theorem dX1_hash_42 : decode cX1_hash 42 = .ok (.istore_n 2, 1) := dk_61 (dk_at dksX1_hash_1 19 rfl rfl)
theorem dX1_hash_43 : decode cX1_hash 43 = .ok (.iinc 3 1, 3) := dk_132 3 1 (dk_at dksX1_hash_1 20 rfl rfl)
theorem dX1_hash_46 : decode cX1_hash 46 = .ok (.goto (-42), 3) := dk_167 255 214 (dk_at dksX1_hash_2 0 rfl rfl)
theorem dX1_hash_49 : decode cX1_hash 49 = .ok (.iload_n 2, 1) := dk_28 (dk_at dksX1_hash_2 3 rfl rfl)
theorem dX1_hash_50 : decode cX1_hash 50 = .ok (.sipush 1023, 3) := dk_17 3 255 (dk_at dksX1_hash_2 4 rfl rfl)
theorem dX1_hash_53 : decode cX1_hash 53 = .ok (.iand, 1) := dk_126 (dk_at dksX1_hash_2 7 rfl rfl)
theorem dX1_hash_54 : decode cX1_hash 54 = .ok (.i2l, 1) := dk_133 (dk_at dksX1_hash_2 8 rfl rfl)
theorem dX1_hash_55 : decode cX1_hash 55 = .ok (.ldc2_w 20, 3) := dk_20 0 20 (dk_at dksX1_hash_2 9 rfl rfl)
theorem dX1_hash_58 : decode cX1_hash 58 = .ok (.lmul, 1) := dk_105 (dk_at dksX1_hash_2 12 rfl rfl)
theorem dX1_hash_59 : decode cX1_hash 59 = .ok (.lreturn, 1) := dk_173 (dk_at dksX1_hash_2 13 rfl rfl)
abbrev cX1_getLong : ByteArray := prog_1_method_8_code
def yX1_getLong : MethodName := ⟨RX1, "getLong", "([BI)J"⟩
def dkwX1_getLong_0 : List UInt8 := [42, 27, 7, 96, 184, 0, 12, 133, 16, 32, 121, 42, 27, 184, 0, 12, 133, 20, 0, 16, 127, 129, 173]
abbrev dktX1_getLong_0 : List UInt8 := dkwX1_getLong_0 ++ []
theorem dksX1_getLong_0 : cX1_getLong.data.toList.drop 0 = dktX1_getLong_0 := by decide +kernel
theorem dX1_getLong_0 : decode cX1_getLong 0 = .ok (.aload_n 0, 1) := dk_42 (dk_at dksX1_getLong_0 0 rfl rfl)
theorem dX1_getLong_1 : decode cX1_getLong 1 = .ok (.iload_n 1, 1) := dk_27 (dk_at dksX1_getLong_0 1 rfl rfl)
theorem dX1_getLong_2 : decode cX1_getLong 2 = .ok (.iconst 4, 1) := dk_7 (dk_at dksX1_getLong_0 2 rfl rfl)
theorem dX1_getLong_3 : decode cX1_getLong 3 = .ok (.iadd, 1) := dk_96 (dk_at dksX1_getLong_0 3 rfl rfl)
theorem dX1_getLong_4 : decode cX1_getLong 4 = .ok (.invokestatic 12, 3) := dk_184 0 12 (dk_at dksX1_getLong_0 4 rfl rfl)
theorem dX1_getLong_7 : decode cX1_getLong 7 = .ok (.i2l, 1) := dk_133 (dk_at dksX1_getLong_0 7 rfl rfl)
theorem dX1_getLong_8 : decode cX1_getLong 8 = .ok (.bipush 32, 2) := dk_16 32 (dk_at dksX1_getLong_0 8 rfl rfl)
theorem dX1_getLong_10 : decode cX1_getLong 10 = .ok (.lshl, 1) := dk_121 (dk_at dksX1_getLong_0 10 rfl rfl)
theorem dX1_getLong_11 : decode cX1_getLong 11 = .ok (.aload_n 0, 1) := dk_42 (dk_at dksX1_getLong_0 11 rfl rfl)
theorem dX1_getLong_12 : decode cX1_getLong 12 = .ok (.iload_n 1, 1) := dk_27 (dk_at dksX1_getLong_0 12 rfl rfl)
theorem dX1_getLong_13 : decode cX1_getLong 13 = .ok (.invokestatic 12, 3) := dk_184 0 12 (dk_at dksX1_getLong_0 13 rfl rfl)
theorem dX1_getLong_16 : decode cX1_getLong 16 = .ok (.i2l, 1) := dk_133 (dk_at dksX1_getLong_0 16 rfl rfl)
theorem dX1_getLong_17 : decode cX1_getLong 17 = .ok (.ldc2_w 16, 3) := dk_20 0 16 (dk_at dksX1_getLong_0 17 rfl rfl)
theorem dX1_getLong_20 : decode cX1_getLong 20 = .ok (.land, 1) := dk_127 (dk_at dksX1_getLong_0 20 rfl rfl)
theorem dX1_getLong_21 : decode cX1_getLong 21 = .ok (.lor, 1) := dk_129 (dk_at dksX1_getLong_0 21 rfl rfl)
theorem dX1_getLong_22 : decode cX1_getLong 22 = .ok (.lreturn, 1) := dk_173 (dk_at dksX1_getLong_0 22 rfl rfl)
abbrev cX1_itemOf : ByteArray := prog_1_method_65_code
def yX1_itemOf : MethodName := ⟨RX1, "itemOf", "(I)I"⟩
def dkwX1_itemOf_0 : List UInt8 := [26, 154, 0, 7, 3, 167, 0, 14, 16, 32, 26, 184, 1, 122, 96, 17, 0, 192, 96, 172]
abbrev dktX1_itemOf_0 : List UInt8 := dkwX1_itemOf_0 ++ []
theorem dksX1_itemOf_0 : cX1_itemOf.data.toList.drop 0 = dktX1_itemOf_0 := by decide +kernel
theorem dX1_itemOf_0 : decode cX1_itemOf 0 = .ok (.iload_n 0, 1) := dk_26 (dk_at dksX1_itemOf_0 0 rfl rfl)
theorem dX1_itemOf_1 : decode cX1_itemOf 1 = .ok (.ifCond .ne 7, 3) := dk_154 0 7 (dk_at dksX1_itemOf_0 1 rfl rfl)
theorem dX1_itemOf_4 : decode cX1_itemOf 4 = .ok (.iconst 0, 1) := dk_3 (dk_at dksX1_itemOf_0 4 rfl rfl)
theorem dX1_itemOf_5 : decode cX1_itemOf 5 = .ok (.goto 14, 3) := dk_167 0 14 (dk_at dksX1_itemOf_0 5 rfl rfl)
theorem dX1_itemOf_8 : decode cX1_itemOf 8 = .ok (.bipush 32, 2) := dk_16 32 (dk_at dksX1_itemOf_0 8 rfl rfl)
theorem dX1_itemOf_10 : decode cX1_itemOf 10 = .ok (.iload_n 0, 1) := dk_26 (dk_at dksX1_itemOf_0 10 rfl rfl)
theorem dX1_itemOf_11 : decode cX1_itemOf 11 = .ok (.invokestatic 378, 3) := dk_184 1 122 (dk_at dksX1_itemOf_0 11 rfl rfl)
theorem dX1_itemOf_14 : decode cX1_itemOf 14 = .ok (.iadd, 1) := dk_96 (dk_at dksX1_itemOf_0 14 rfl rfl)
theorem dX1_itemOf_15 : decode cX1_itemOf 15 = .ok (.sipush 192, 3) := dk_17 0 192 (dk_at dksX1_itemOf_0 15 rfl rfl)
theorem dX1_itemOf_18 : decode cX1_itemOf 18 = .ok (.iadd, 1) := dk_96 (dk_at dksX1_itemOf_0 18 rfl rfl)
theorem dX1_itemOf_19 : decode cX1_itemOf 19 = .ok (.ireturn, 1) := dk_172 (dk_at dksX1_itemOf_0 19 rfl rfl)
abbrev cX1_begin : ByteArray := prog_1_method_19_code
def yX1_begin : MethodName := ⟨RX1, "begin", "()V"⟩
def dkwX1_begin_0 : List UInt8 := [42, 180, 0, 40, 182, 0, 217, 177]
abbrev dktX1_begin_0 : List UInt8 := dkwX1_begin_0 ++ []
theorem dksX1_begin_0 : cX1_begin.data.toList.drop 0 = dktX1_begin_0 := by decide +kernel
theorem dX1_begin_0 : decode cX1_begin 0 = .ok (.aload_n 0, 1) := dk_42 (dk_at dksX1_begin_0 0 rfl rfl)
theorem dX1_begin_1 : decode cX1_begin 1 = .ok (.getfield 40, 3) := dk_180 0 40 (dk_at dksX1_begin_0 1 rfl rfl)
theorem dX1_begin_4 : decode cX1_begin 4 = .ok (.invokevirtual 217, 3) := dk_182 0 217 (dk_at dksX1_begin_0 4 rfl rfl)
theorem dX1_begin_7 : decode cX1_begin 7 = .ok (.return_, 1) := dk_177 (dk_at dksX1_begin_0 7 rfl rfl)
abbrev cX1_addEntry : ByteArray := prog_1_method_21_code
def yX1_addEntry : MethodName := ⟨RX1, "addEntry", "(IJII)V"⟩
def dkwX1_addEntry_1 : List UInt8 := [182, 0, 231, 16, 16, 21, 5, 182, 0, 224, 87, 42, 180, 0, 40, 9, 3, 182, 0, 227, 177]
abbrev dktX1_addEntry_1 : List UInt8 := dkwX1_addEntry_1 ++ []
def dkwX1_addEntry_0 : List UInt8 := [42, 180, 0, 40, 5, 16, 48, 182, 0, 220, 3, 27, 182, 0, 224, 7, 21, 4, 182, 0, 224, 16, 8, 32]
abbrev dktX1_addEntry_0 : List UInt8 := dkwX1_addEntry_0 ++ dktX1_addEntry_1
theorem dksX1_addEntry_0 : cX1_addEntry.data.toList.drop 0 = dktX1_addEntry_0 := by decide +kernel
theorem dksX1_addEntry_1 : cX1_addEntry.data.toList.drop 24 = dktX1_addEntry_1 := dk_seg dksX1_addEntry_0 24 rfl rfl
theorem dX1_addEntry_0 : decode cX1_addEntry 0 = .ok (.aload_n 0, 1) := dk_42 (dk_at dksX1_addEntry_0 0 rfl rfl)
theorem dX1_addEntry_1 : decode cX1_addEntry 1 = .ok (.getfield 40, 3) := dk_180 0 40 (dk_at dksX1_addEntry_0 1 rfl rfl)
theorem dX1_addEntry_4 : decode cX1_addEntry 4 = .ok (.iconst 2, 1) := dk_5 (dk_at dksX1_addEntry_0 4 rfl rfl)
theorem dX1_addEntry_5 : decode cX1_addEntry 5 = .ok (.bipush 48, 2) := dk_16 48 (dk_at dksX1_addEntry_0 5 rfl rfl)
theorem dX1_addEntry_7 : decode cX1_addEntry 7 = .ok (.invokevirtual 220, 3) := dk_182 0 220 (dk_at dksX1_addEntry_0 7 rfl rfl)
theorem dX1_addEntry_10 : decode cX1_addEntry 10 = .ok (.iconst 0, 1) := dk_3 (dk_at dksX1_addEntry_0 10 rfl rfl)
theorem dX1_addEntry_11 : decode cX1_addEntry 11 = .ok (.iload_n 1, 1) := dk_27 (dk_at dksX1_addEntry_0 11 rfl rfl)
theorem dX1_addEntry_12 : decode cX1_addEntry 12 = .ok (.invokevirtual 224, 3) := dk_182 0 224 (dk_at dksX1_addEntry_0 12 rfl rfl)
theorem dX1_addEntry_15 : decode cX1_addEntry 15 = .ok (.iconst 4, 1) := dk_7 (dk_at dksX1_addEntry_0 15 rfl rfl)
theorem dX1_addEntry_16 : decode cX1_addEntry 16 = .ok (.iload 4, 2) := dk_21 4 (dk_at dksX1_addEntry_0 16 rfl rfl)
theorem dX1_addEntry_18 : decode cX1_addEntry 18 = .ok (.invokevirtual 224, 3) := dk_182 0 224 (dk_at dksX1_addEntry_0 18 rfl rfl)
theorem dX1_addEntry_21 : decode cX1_addEntry 21 = .ok (.bipush 8, 2) := dk_16 8 (dk_at dksX1_addEntry_0 21 rfl rfl)
theorem dX1_addEntry_23 : decode cX1_addEntry 23 = .ok (.lload_n 2, 1) := dk_32 (dk_at dksX1_addEntry_0 23 rfl rfl)
theorem dX1_addEntry_24 : decode cX1_addEntry 24 = .ok (.invokevirtual 231, 3) := dk_182 0 231 (dk_at dksX1_addEntry_1 0 rfl rfl)
theorem dX1_addEntry_27 : decode cX1_addEntry 27 = .ok (.bipush 16, 2) := dk_16 16 (dk_at dksX1_addEntry_1 3 rfl rfl)
theorem dX1_addEntry_29 : decode cX1_addEntry 29 = .ok (.iload 5, 2) := dk_21 5 (dk_at dksX1_addEntry_1 5 rfl rfl)
theorem dX1_addEntry_31 : decode cX1_addEntry 31 = .ok (.invokevirtual 224, 3) := dk_182 0 224 (dk_at dksX1_addEntry_1 7 rfl rfl)
theorem dX1_addEntry_34 : decode cX1_addEntry 34 = .ok (.pop, 1) := dk_87 (dk_at dksX1_addEntry_1 10 rfl rfl)
theorem dX1_addEntry_35 : decode cX1_addEntry 35 = .ok (.aload_n 0, 1) := dk_42 (dk_at dksX1_addEntry_1 11 rfl rfl)
theorem dX1_addEntry_36 : decode cX1_addEntry 36 = .ok (.getfield 40, 3) := dk_180 0 40 (dk_at dksX1_addEntry_1 12 rfl rfl)
theorem dX1_addEntry_39 : decode cX1_addEntry 39 = .ok (.lconst 0, 1) := dk_9 (dk_at dksX1_addEntry_1 15 rfl rfl)
theorem dX1_addEntry_40 : decode cX1_addEntry 40 = .ok (.iconst 0, 1) := dk_3 (dk_at dksX1_addEntry_1 16 rfl rfl)
theorem dX1_addEntry_41 : decode cX1_addEntry 41 = .ok (.invokevirtual 227, 3) := dk_182 0 227 (dk_at dksX1_addEntry_1 17 rfl rfl)
theorem dX1_addEntry_44 : decode cX1_addEntry 44 = .ok (.return_, 1) := dk_177 (dk_at dksX1_addEntry_1 20 rfl rfl)
abbrev cX1_addInode : ByteArray := prog_1_method_20_code
def yX1_addInode : MethodName := ⟨RX1, "addInode", "(LNandHouse$Inode;Z)V"⟩
def dkwX1_addInode_3 : List UInt8 := [182, 0, 227, 177]
abbrev dktX1_addInode_3 : List UInt8 := dkwX1_addInode_3 ++ []
def dkwX1_addInode_2 : List UInt8 := [180, 0, 189, 182, 0, 224, 16, 20, 43, 180, 0, 192, 182, 0, 224, 87, 42, 180, 0, 40, 9, 28]
abbrev dktX1_addInode_2 : List UInt8 := dkwX1_addInode_2 ++ dktX1_addInode_3
def dkwX1_addInode_1 : List UInt8 := [182, 0, 224, 16, 8, 43, 180, 0, 185, 182, 0, 224, 16, 12, 43, 180, 0, 188, 182, 0, 224, 16, 16, 43]
abbrev dktX1_addInode_1 : List UInt8 := dkwX1_addInode_1 ++ dktX1_addInode_2
def dkwX1_addInode_0 : List UInt8 := [42, 180, 0, 40, 4, 16, 48, 182, 0, 220, 3, 43, 180, 0, 177, 182, 0, 224, 7, 43, 180, 0, 182]
abbrev dktX1_addInode_0 : List UInt8 := dkwX1_addInode_0 ++ dktX1_addInode_1
theorem dksX1_addInode_0 : cX1_addInode.data.toList.drop 0 = dktX1_addInode_0 := by decide +kernel
theorem dksX1_addInode_1 : cX1_addInode.data.toList.drop 23 = dktX1_addInode_1 := dk_seg dksX1_addInode_0 23 rfl rfl
theorem dksX1_addInode_2 : cX1_addInode.data.toList.drop 47 = dktX1_addInode_2 := dk_seg dksX1_addInode_1 24 rfl rfl
theorem dksX1_addInode_3 : cX1_addInode.data.toList.drop 69 = dktX1_addInode_3 := dk_seg dksX1_addInode_2 22 rfl rfl
theorem dX1_addInode_0 : decode cX1_addInode 0 = .ok (.aload_n 0, 1) := dk_42 (dk_at dksX1_addInode_0 0 rfl rfl)
theorem dX1_addInode_1 : decode cX1_addInode 1 = .ok (.getfield 40, 3) := dk_180 0 40 (dk_at dksX1_addInode_0 1 rfl rfl)
theorem dX1_addInode_4 : decode cX1_addInode 4 = .ok (.iconst 1, 1) := dk_4 (dk_at dksX1_addInode_0 4 rfl rfl)
theorem dX1_addInode_5 : decode cX1_addInode 5 = .ok (.bipush 48, 2) := dk_16 48 (dk_at dksX1_addInode_0 5 rfl rfl)
theorem dX1_addInode_7 : decode cX1_addInode 7 = .ok (.invokevirtual 220, 3) := dk_182 0 220 (dk_at dksX1_addInode_0 7 rfl rfl)
theorem dX1_addInode_10 : decode cX1_addInode 10 = .ok (.iconst 0, 1) := dk_3 (dk_at dksX1_addInode_0 10 rfl rfl)
theorem dX1_addInode_11 : decode cX1_addInode 11 = .ok (.aload_n 1, 1) := dk_43 (dk_at dksX1_addInode_0 11 rfl rfl)
theorem dX1_addInode_12 : decode cX1_addInode 12 = .ok (.getfield 177, 3) := dk_180 0 177 (dk_at dksX1_addInode_0 12 rfl rfl)
theorem dX1_addInode_15 : decode cX1_addInode 15 = .ok (.invokevirtual 224, 3) := dk_182 0 224 (dk_at dksX1_addInode_0 15 rfl rfl)
theorem dX1_addInode_18 : decode cX1_addInode 18 = .ok (.iconst 4, 1) := dk_7 (dk_at dksX1_addInode_0 18 rfl rfl)
theorem dX1_addInode_19 : decode cX1_addInode 19 = .ok (.aload_n 1, 1) := dk_43 (dk_at dksX1_addInode_0 19 rfl rfl)
theorem dX1_addInode_20 : decode cX1_addInode 20 = .ok (.getfield 182, 3) := dk_180 0 182 (dk_at dksX1_addInode_0 20 rfl rfl)
theorem dX1_addInode_23 : decode cX1_addInode 23 = .ok (.invokevirtual 224, 3) := dk_182 0 224 (dk_at dksX1_addInode_1 0 rfl rfl)
theorem dX1_addInode_26 : decode cX1_addInode 26 = .ok (.bipush 8, 2) := dk_16 8 (dk_at dksX1_addInode_1 3 rfl rfl)
theorem dX1_addInode_28 : decode cX1_addInode 28 = .ok (.aload_n 1, 1) := dk_43 (dk_at dksX1_addInode_1 5 rfl rfl)
theorem dX1_addInode_29 : decode cX1_addInode 29 = .ok (.getfield 185, 3) := dk_180 0 185 (dk_at dksX1_addInode_1 6 rfl rfl)
theorem dX1_addInode_32 : decode cX1_addInode 32 = .ok (.invokevirtual 224, 3) := dk_182 0 224 (dk_at dksX1_addInode_1 9 rfl rfl)
theorem dX1_addInode_35 : decode cX1_addInode 35 = .ok (.bipush 12, 2) := dk_16 12 (dk_at dksX1_addInode_1 12 rfl rfl)
theorem dX1_addInode_37 : decode cX1_addInode 37 = .ok (.aload_n 1, 1) := dk_43 (dk_at dksX1_addInode_1 14 rfl rfl)
theorem dX1_addInode_38 : decode cX1_addInode 38 = .ok (.getfield 188, 3) := dk_180 0 188 (dk_at dksX1_addInode_1 15 rfl rfl)
theorem dX1_addInode_41 : decode cX1_addInode 41 = .ok (.invokevirtual 224, 3) := dk_182 0 224 (dk_at dksX1_addInode_1 18 rfl rfl)
theorem dX1_addInode_44 : decode cX1_addInode 44 = .ok (.bipush 16, 2) := dk_16 16 (dk_at dksX1_addInode_1 21 rfl rfl)
theorem dX1_addInode_46 : decode cX1_addInode 46 = .ok (.aload_n 1, 1) := dk_43 (dk_at dksX1_addInode_1 23 rfl rfl)
theorem dX1_addInode_47 : decode cX1_addInode 47 = .ok (.getfield 189, 3) := dk_180 0 189 (dk_at dksX1_addInode_2 0 rfl rfl)
theorem dX1_addInode_50 : decode cX1_addInode 50 = .ok (.invokevirtual 224, 3) := dk_182 0 224 (dk_at dksX1_addInode_2 3 rfl rfl)
theorem dX1_addInode_53 : decode cX1_addInode 53 = .ok (.bipush 20, 2) := dk_16 20 (dk_at dksX1_addInode_2 6 rfl rfl)
theorem dX1_addInode_55 : decode cX1_addInode 55 = .ok (.aload_n 1, 1) := dk_43 (dk_at dksX1_addInode_2 8 rfl rfl)
theorem dX1_addInode_56 : decode cX1_addInode 56 = .ok (.getfield 192, 3) := dk_180 0 192 (dk_at dksX1_addInode_2 9 rfl rfl)
theorem dX1_addInode_59 : decode cX1_addInode 59 = .ok (.invokevirtual 224, 3) := dk_182 0 224 (dk_at dksX1_addInode_2 12 rfl rfl)
theorem dX1_addInode_62 : decode cX1_addInode 62 = .ok (.pop, 1) := dk_87 (dk_at dksX1_addInode_2 15 rfl rfl)
theorem dX1_addInode_63 : decode cX1_addInode 63 = .ok (.aload_n 0, 1) := dk_42 (dk_at dksX1_addInode_2 16 rfl rfl)
theorem dX1_addInode_64 : decode cX1_addInode 64 = .ok (.getfield 40, 3) := dk_180 0 40 (dk_at dksX1_addInode_2 17 rfl rfl)
theorem dX1_addInode_67 : decode cX1_addInode 67 = .ok (.lconst 0, 1) := dk_9 (dk_at dksX1_addInode_2 20 rfl rfl)
theorem dX1_addInode_68 : decode cX1_addInode 68 = .ok (.iload_n 2, 1) := dk_28 (dk_at dksX1_addInode_2 21 rfl rfl)
theorem dX1_addInode_69 : decode cX1_addInode 69 = .ok (.invokevirtual 227, 3) := dk_182 0 227 (dk_at dksX1_addInode_3 0 rfl rfl)
theorem dX1_addInode_72 : decode cX1_addInode 72 = .ok (.return_, 1) := dk_177 (dk_at dksX1_addInode_3 3 rfl rfl)
abbrev cX1_addPiece : ByteArray := prog_1_method_64_code
def yX1_addPiece : MethodName := ⟨RX1, "addPiece", "(III)V"⟩
def dkwX1_addPiece_2 : List UInt8 := [180, 0, 242, 16, 32, 96, 29, 184, 1, 44, 42, 180, 0, 40, 9, 3, 182, 0, 227, 177]
abbrev dktX1_addPiece_2 : List UInt8 := dkwX1_addPiece_2 ++ []
def dkwX1_addPiece_1 : List UInt8 := [16, 16, 120, 128, 182, 0, 224, 87, 42, 180, 0, 47, 3, 42, 180, 0, 40, 180, 1, 121, 42, 180, 0, 40]
abbrev dktX1_addPiece_1 : List UInt8 := dkwX1_addPiece_1 ++ dktX1_addPiece_2
def dkwX1_addPiece_0 : List UInt8 := [42, 180, 0, 40, 6, 16, 32, 29, 184, 1, 122, 96, 182, 0, 220, 3, 27, 182, 0, 224, 7, 28, 29]
abbrev dktX1_addPiece_0 : List UInt8 := dkwX1_addPiece_0 ++ dktX1_addPiece_1
theorem dksX1_addPiece_0 : cX1_addPiece.data.toList.drop 0 = dktX1_addPiece_0 := by decide +kernel
theorem dksX1_addPiece_1 : cX1_addPiece.data.toList.drop 23 = dktX1_addPiece_1 := dk_seg dksX1_addPiece_0 23 rfl rfl
theorem dksX1_addPiece_2 : cX1_addPiece.data.toList.drop 47 = dktX1_addPiece_2 := dk_seg dksX1_addPiece_1 24 rfl rfl
theorem dX1_addPiece_0 : decode cX1_addPiece 0 = .ok (.aload_n 0, 1) := dk_42 (dk_at dksX1_addPiece_0 0 rfl rfl)
theorem dX1_addPiece_1 : decode cX1_addPiece 1 = .ok (.getfield 40, 3) := dk_180 0 40 (dk_at dksX1_addPiece_0 1 rfl rfl)
theorem dX1_addPiece_4 : decode cX1_addPiece 4 = .ok (.iconst 3, 1) := dk_6 (dk_at dksX1_addPiece_0 4 rfl rfl)
theorem dX1_addPiece_5 : decode cX1_addPiece 5 = .ok (.bipush 32, 2) := dk_16 32 (dk_at dksX1_addPiece_0 5 rfl rfl)
theorem dX1_addPiece_7 : decode cX1_addPiece 7 = .ok (.iload_n 3, 1) := dk_29 (dk_at dksX1_addPiece_0 7 rfl rfl)
theorem dX1_addPiece_8 : decode cX1_addPiece 8 = .ok (.invokestatic 378, 3) := dk_184 1 122 (dk_at dksX1_addPiece_0 8 rfl rfl)
theorem dX1_addPiece_11 : decode cX1_addPiece 11 = .ok (.iadd, 1) := dk_96 (dk_at dksX1_addPiece_0 11 rfl rfl)
theorem dX1_addPiece_12 : decode cX1_addPiece 12 = .ok (.invokevirtual 220, 3) := dk_182 0 220 (dk_at dksX1_addPiece_0 12 rfl rfl)
theorem dX1_addPiece_15 : decode cX1_addPiece 15 = .ok (.iconst 0, 1) := dk_3 (dk_at dksX1_addPiece_0 15 rfl rfl)
theorem dX1_addPiece_16 : decode cX1_addPiece 16 = .ok (.iload_n 1, 1) := dk_27 (dk_at dksX1_addPiece_0 16 rfl rfl)
theorem dX1_addPiece_17 : decode cX1_addPiece 17 = .ok (.invokevirtual 224, 3) := dk_182 0 224 (dk_at dksX1_addPiece_0 17 rfl rfl)
theorem dX1_addPiece_20 : decode cX1_addPiece 20 = .ok (.iconst 4, 1) := dk_7 (dk_at dksX1_addPiece_0 20 rfl rfl)
theorem dX1_addPiece_21 : decode cX1_addPiece 21 = .ok (.iload_n 2, 1) := dk_28 (dk_at dksX1_addPiece_0 21 rfl rfl)
theorem dX1_addPiece_22 : decode cX1_addPiece 22 = .ok (.iload_n 3, 1) := dk_29 (dk_at dksX1_addPiece_0 22 rfl rfl)
theorem dX1_addPiece_23 : decode cX1_addPiece 23 = .ok (.bipush 16, 2) := dk_16 16 (dk_at dksX1_addPiece_1 0 rfl rfl)
theorem dX1_addPiece_25 : decode cX1_addPiece 25 = .ok (.ishl, 1) := dk_120 (dk_at dksX1_addPiece_1 2 rfl rfl)
theorem dX1_addPiece_26 : decode cX1_addPiece 26 = .ok (.ior, 1) := dk_128 (dk_at dksX1_addPiece_1 3 rfl rfl)
theorem dX1_addPiece_27 : decode cX1_addPiece 27 = .ok (.invokevirtual 224, 3) := dk_182 0 224 (dk_at dksX1_addPiece_1 4 rfl rfl)
theorem dX1_addPiece_30 : decode cX1_addPiece 30 = .ok (.pop, 1) := dk_87 (dk_at dksX1_addPiece_1 7 rfl rfl)
theorem dX1_addPiece_31 : decode cX1_addPiece 31 = .ok (.aload_n 0, 1) := dk_42 (dk_at dksX1_addPiece_1 8 rfl rfl)
theorem dX1_addPiece_32 : decode cX1_addPiece 32 = .ok (.getfield 47, 3) := dk_180 0 47 (dk_at dksX1_addPiece_1 9 rfl rfl)
theorem dX1_addPiece_35 : decode cX1_addPiece 35 = .ok (.iconst 0, 1) := dk_3 (dk_at dksX1_addPiece_1 12 rfl rfl)
theorem dX1_addPiece_36 : decode cX1_addPiece 36 = .ok (.aload_n 0, 1) := dk_42 (dk_at dksX1_addPiece_1 13 rfl rfl)
theorem dX1_addPiece_37 : decode cX1_addPiece 37 = .ok (.getfield 40, 3) := dk_180 0 40 (dk_at dksX1_addPiece_1 14 rfl rfl)
theorem dX1_addPiece_40 : decode cX1_addPiece 40 = .ok (.getfield 377, 3) := dk_180 1 121 (dk_at dksX1_addPiece_1 17 rfl rfl)
theorem dX1_addPiece_43 : decode cX1_addPiece 43 = .ok (.aload_n 0, 1) := dk_42 (dk_at dksX1_addPiece_1 20 rfl rfl)
theorem dX1_addPiece_44 : decode cX1_addPiece 44 = .ok (.getfield 40, 3) := dk_180 0 40 (dk_at dksX1_addPiece_1 21 rfl rfl)
theorem dX1_addPiece_47 : decode cX1_addPiece 47 = .ok (.getfield 242, 3) := dk_180 0 242 (dk_at dksX1_addPiece_2 0 rfl rfl)
theorem dX1_addPiece_50 : decode cX1_addPiece 50 = .ok (.bipush 32, 2) := dk_16 32 (dk_at dksX1_addPiece_2 3 rfl rfl)
theorem dX1_addPiece_52 : decode cX1_addPiece 52 = .ok (.iadd, 1) := dk_96 (dk_at dksX1_addPiece_2 5 rfl rfl)
theorem dX1_addPiece_53 : decode cX1_addPiece 53 = .ok (.iload_n 3, 1) := dk_29 (dk_at dksX1_addPiece_2 6 rfl rfl)
theorem dX1_addPiece_54 : decode cX1_addPiece 54 = .ok (.invokestatic 300, 3) := dk_184 1 44 (dk_at dksX1_addPiece_2 7 rfl rfl)
theorem dX1_addPiece_57 : decode cX1_addPiece 57 = .ok (.aload_n 0, 1) := dk_42 (dk_at dksX1_addPiece_2 10 rfl rfl)
theorem dX1_addPiece_58 : decode cX1_addPiece 58 = .ok (.getfield 40, 3) := dk_180 0 40 (dk_at dksX1_addPiece_2 11 rfl rfl)
theorem dX1_addPiece_61 : decode cX1_addPiece 61 = .ok (.lconst 0, 1) := dk_9 (dk_at dksX1_addPiece_2 14 rfl rfl)
theorem dX1_addPiece_62 : decode cX1_addPiece 62 = .ok (.iconst 0, 1) := dk_3 (dk_at dksX1_addPiece_2 15 rfl rfl)
theorem dX1_addPiece_63 : decode cX1_addPiece 63 = .ok (.invokevirtual 227, 3) := dk_182 0 227 (dk_at dksX1_addPiece_2 16 rfl rfl)
theorem dX1_addPiece_66 : decode cX1_addPiece 66 = .ok (.return_, 1) := dk_177 (dk_at dksX1_addPiece_2 19 rfl rfl)
abbrev cX1_hand : ByteArray := prog_1_method_22_code
def yX1_hand : MethodName := ⟨RX1, "hand", "()V"⟩
def dkwX1_hand_3 : List UInt8 := [167, 255, 198, 177]
abbrev dktX1_hand_3 : List UInt8 := dkwX1_hand_3 ++ []
def dkwX1_hand_2 : List UInt8 := [42, 180, 0, 111, 180, 0, 249, 42, 180, 0, 111, 180, 0, 252, 27, 96, 182, 0, 255, 27, 28, 96, 60]
abbrev dktX1_hand_2 : List UInt8 := dkwX1_hand_2 ++ dktX1_hand_3
def dkwX1_hand_1 : List UInt8 := [42, 180, 0, 40, 27, 181, 0, 242, 42, 180, 0, 40, 182, 0, 245, 61, 42, 180, 0, 111, 42, 180, 0, 40]
abbrev dktX1_hand_1 : List UInt8 := dkwX1_hand_1 ++ dktX1_hand_2
def dkwX1_hand_0 : List UInt8 := [42, 180, 0, 111, 42, 180, 0, 40, 182, 0, 235, 3, 60, 27, 42, 180, 0, 40, 180, 0, 239, 162, 0, 53]
abbrev dktX1_hand_0 : List UInt8 := dkwX1_hand_0 ++ dktX1_hand_1
theorem dksX1_hand_0 : cX1_hand.data.toList.drop 0 = dktX1_hand_0 := by decide +kernel
theorem dksX1_hand_1 : cX1_hand.data.toList.drop 24 = dktX1_hand_1 := dk_seg dksX1_hand_0 24 rfl rfl
theorem dksX1_hand_2 : cX1_hand.data.toList.drop 48 = dktX1_hand_2 := dk_seg dksX1_hand_1 24 rfl rfl
theorem dksX1_hand_3 : cX1_hand.data.toList.drop 71 = dktX1_hand_3 := dk_seg dksX1_hand_2 23 rfl rfl
theorem dX1_hand_0 : decode cX1_hand 0 = .ok (.aload_n 0, 1) := dk_42 (dk_at dksX1_hand_0 0 rfl rfl)
theorem dX1_hand_1 : decode cX1_hand 1 = .ok (.getfield 111, 3) := dk_180 0 111 (dk_at dksX1_hand_0 1 rfl rfl)
theorem dX1_hand_4 : decode cX1_hand 4 = .ok (.aload_n 0, 1) := dk_42 (dk_at dksX1_hand_0 4 rfl rfl)
theorem dX1_hand_5 : decode cX1_hand 5 = .ok (.getfield 40, 3) := dk_180 0 40 (dk_at dksX1_hand_0 5 rfl rfl)
theorem dX1_hand_8 : decode cX1_hand 8 = .ok (.invokevirtual 235, 3) := dk_182 0 235 (dk_at dksX1_hand_0 8 rfl rfl)
theorem dX1_hand_11 : decode cX1_hand 11 = .ok (.iconst 0, 1) := dk_3 (dk_at dksX1_hand_0 11 rfl rfl)
theorem dX1_hand_12 : decode cX1_hand 12 = .ok (.istore_n 1, 1) := dk_60 (dk_at dksX1_hand_0 12 rfl rfl)
theorem dX1_hand_13 : decode cX1_hand 13 = .ok (.iload_n 1, 1) := dk_27 (dk_at dksX1_hand_0 13 rfl rfl)
theorem dX1_hand_14 : decode cX1_hand 14 = .ok (.aload_n 0, 1) := dk_42 (dk_at dksX1_hand_0 14 rfl rfl)
theorem dX1_hand_15 : decode cX1_hand 15 = .ok (.getfield 40, 3) := dk_180 0 40 (dk_at dksX1_hand_0 15 rfl rfl)
theorem dX1_hand_18 : decode cX1_hand 18 = .ok (.getfield 239, 3) := dk_180 0 239 (dk_at dksX1_hand_0 18 rfl rfl)
theorem dX1_hand_21 : decode cX1_hand 21 = .ok (.if_icmp .ge 53, 3) := dk_162 0 53 (dk_at dksX1_hand_0 21 rfl rfl)
theorem dX1_hand_24 : decode cX1_hand 24 = .ok (.aload_n 0, 1) := dk_42 (dk_at dksX1_hand_1 0 rfl rfl)
theorem dX1_hand_25 : decode cX1_hand 25 = .ok (.getfield 40, 3) := dk_180 0 40 (dk_at dksX1_hand_1 1 rfl rfl)
theorem dX1_hand_28 : decode cX1_hand 28 = .ok (.iload_n 1, 1) := dk_27 (dk_at dksX1_hand_1 4 rfl rfl)
theorem dX1_hand_29 : decode cX1_hand 29 = .ok (.putfield 242, 3) := dk_181 0 242 (dk_at dksX1_hand_1 5 rfl rfl)
theorem dX1_hand_32 : decode cX1_hand 32 = .ok (.aload_n 0, 1) := dk_42 (dk_at dksX1_hand_1 8 rfl rfl)
theorem dX1_hand_33 : decode cX1_hand 33 = .ok (.getfield 40, 3) := dk_180 0 40 (dk_at dksX1_hand_1 9 rfl rfl)
theorem dX1_hand_36 : decode cX1_hand 36 = .ok (.invokevirtual 245, 3) := dk_182 0 245 (dk_at dksX1_hand_1 12 rfl rfl)
theorem dX1_hand_39 : decode cX1_hand 39 = .ok (.istore_n 2, 1) := dk_61 (dk_at dksX1_hand_1 15 rfl rfl)
theorem dX1_hand_40 : decode cX1_hand 40 = .ok (.aload_n 0, 1) := dk_42 (dk_at dksX1_hand_1 16 rfl rfl)
theorem dX1_hand_41 : decode cX1_hand 41 = .ok (.getfield 111, 3) := dk_180 0 111 (dk_at dksX1_hand_1 17 rfl rfl)
theorem dX1_hand_44 : decode cX1_hand 44 = .ok (.aload_n 0, 1) := dk_42 (dk_at dksX1_hand_1 20 rfl rfl)
theorem dX1_hand_45 : decode cX1_hand 45 = .ok (.getfield 40, 3) := dk_180 0 40 (dk_at dksX1_hand_1 21 rfl rfl)
theorem dX1_hand_48 : decode cX1_hand 48 = .ok (.aload_n 0, 1) := dk_42 (dk_at dksX1_hand_2 0 rfl rfl)
theorem dX1_hand_49 : decode cX1_hand 49 = .ok (.getfield 111, 3) := dk_180 0 111 (dk_at dksX1_hand_2 1 rfl rfl)
theorem dX1_hand_52 : decode cX1_hand 52 = .ok (.getfield 249, 3) := dk_180 0 249 (dk_at dksX1_hand_2 4 rfl rfl)
theorem dX1_hand_55 : decode cX1_hand 55 = .ok (.aload_n 0, 1) := dk_42 (dk_at dksX1_hand_2 7 rfl rfl)
theorem dX1_hand_56 : decode cX1_hand 56 = .ok (.getfield 111, 3) := dk_180 0 111 (dk_at dksX1_hand_2 8 rfl rfl)
theorem dX1_hand_59 : decode cX1_hand 59 = .ok (.getfield 252, 3) := dk_180 0 252 (dk_at dksX1_hand_2 11 rfl rfl)
theorem dX1_hand_62 : decode cX1_hand 62 = .ok (.iload_n 1, 1) := dk_27 (dk_at dksX1_hand_2 14 rfl rfl)
theorem dX1_hand_63 : decode cX1_hand 63 = .ok (.iadd, 1) := dk_96 (dk_at dksX1_hand_2 15 rfl rfl)
theorem dX1_hand_64 : decode cX1_hand 64 = .ok (.invokevirtual 255, 3) := dk_182 0 255 (dk_at dksX1_hand_2 16 rfl rfl)
theorem dX1_hand_67 : decode cX1_hand 67 = .ok (.iload_n 1, 1) := dk_27 (dk_at dksX1_hand_2 19 rfl rfl)
theorem dX1_hand_68 : decode cX1_hand 68 = .ok (.iload_n 2, 1) := dk_28 (dk_at dksX1_hand_2 20 rfl rfl)
theorem dX1_hand_69 : decode cX1_hand 69 = .ok (.iadd, 1) := dk_96 (dk_at dksX1_hand_2 21 rfl rfl)
theorem dX1_hand_70 : decode cX1_hand 70 = .ok (.istore_n 1, 1) := dk_60 (dk_at dksX1_hand_2 22 rfl rfl)
theorem dX1_hand_71 : decode cX1_hand 71 = .ok (.goto (-58), 3) := dk_167 255 198 (dk_at dksX1_hand_3 0 rfl rfl)
theorem dX1_hand_74 : decode cX1_hand 74 = .ok (.return_, 1) := dk_177 (dk_at dksX1_hand_3 3 rfl rfl)
abbrev cX1_mkdir : ByteArray := prog_1_method_25_code
def yX1_mkdir : MethodName := ⟨RX1, "mkdir", "(IJ)I"⟩
def dkwX1_mkdir_0 : List UInt8 := [42, 27, 32, 4, 182, 1, 14, 172]
abbrev dktX1_mkdir_0 : List UInt8 := dkwX1_mkdir_0 ++ []
theorem dksX1_mkdir_0 : cX1_mkdir.data.toList.drop 0 = dktX1_mkdir_0 := by decide +kernel
theorem dX1_mkdir_0 : decode cX1_mkdir 0 = .ok (.aload_n 0, 1) := dk_42 (dk_at dksX1_mkdir_0 0 rfl rfl)
theorem dX1_mkdir_1 : decode cX1_mkdir 1 = .ok (.iload_n 1, 1) := dk_27 (dk_at dksX1_mkdir_0 1 rfl rfl)
theorem dX1_mkdir_2 : decode cX1_mkdir 2 = .ok (.lload_n 2, 1) := dk_32 (dk_at dksX1_mkdir_0 2 rfl rfl)
theorem dX1_mkdir_3 : decode cX1_mkdir 3 = .ok (.iconst 1, 1) := dk_4 (dk_at dksX1_mkdir_0 3 rfl rfl)
theorem dX1_mkdir_4 : decode cX1_mkdir 4 = .ok (.invokevirtual 270, 3) := dk_182 1 14 (dk_at dksX1_mkdir_0 4 rfl rfl)
theorem dX1_mkdir_7 : decode cX1_mkdir 7 = .ok (.ireturn, 1) := dk_172 (dk_at dksX1_mkdir_0 7 rfl rfl)
abbrev cX1_sign : ByteArray := prog_1_method_26_code
def yX1_sign : MethodName := ⟨RX1, "sign", "(IJ)I"⟩
def dkwX1_sign_0 : List UInt8 := [42, 27, 32, 6, 182, 1, 14, 172]
abbrev dktX1_sign_0 : List UInt8 := dkwX1_sign_0 ++ []
theorem dksX1_sign_0 : cX1_sign.data.toList.drop 0 = dktX1_sign_0 := by decide +kernel
theorem dX1_sign_0 : decode cX1_sign 0 = .ok (.aload_n 0, 1) := dk_42 (dk_at dksX1_sign_0 0 rfl rfl)
theorem dX1_sign_1 : decode cX1_sign 1 = .ok (.iload_n 1, 1) := dk_27 (dk_at dksX1_sign_0 1 rfl rfl)
theorem dX1_sign_2 : decode cX1_sign 2 = .ok (.lload_n 2, 1) := dk_32 (dk_at dksX1_sign_0 2 rfl rfl)
theorem dX1_sign_3 : decode cX1_sign 3 = .ok (.iconst 3, 1) := dk_6 (dk_at dksX1_sign_0 3 rfl rfl)
theorem dX1_sign_4 : decode cX1_sign 4 = .ok (.invokevirtual 270, 3) := dk_182 1 14 (dk_at dksX1_sign_0 4 rfl rfl)
theorem dX1_sign_7 : decode cX1_sign 7 = .ok (.ireturn, 1) := dk_172 (dk_at dksX1_sign_0 7 rfl rfl)
abbrev cX1_link : ByteArray := prog_1_method_28_code
def yX1_link : MethodName := ⟨RX1, "link", "(IIJ)I"⟩
def dkwX1_link_9 : List UInt8 := [42, 180, 0, 58, 180, 0, 185, 172]
abbrev dktX1_link_9 : List UInt8 := dkwX1_link_9 ++ []
def dkwX1_link_8 : List UInt8 := [42, 180, 0, 54, 4, 182, 1, 10, 42, 182, 1, 54, 42, 89, 180, 0, 130, 17, 0, 240, 96, 181, 0, 130]
abbrev dktX1_link_8 : List UInt8 := dkwX1_link_8 ++ dktX1_link_9
def dkwX1_link_7 : List UInt8 := [182, 1, 38, 42, 28, 33, 27, 42, 180, 0, 207, 182, 1, 40, 42, 42, 180, 0, 58, 3, 182, 1, 10, 42]
abbrev dktX1_link_7 : List UInt8 := dkwX1_link_7 ++ dktX1_link_8
def dkwX1_link_6 : List UInt8 := [89, 180, 0, 185, 4, 96, 181, 0, 185, 42, 180, 0, 54, 89, 180, 0, 189, 4, 96, 181, 0, 189, 42]
abbrev dktX1_link_6 : List UInt8 := dkwX1_link_6 ++ dktX1_link_7
def dkwX1_link_5 : List UInt8 := [180, 0, 130, 16, 48, 96, 17, 0, 192, 96, 42, 180, 0, 121, 164, 0, 6, 16, 246, 172, 42, 180, 0, 58]
abbrev dktX1_link_5 : List UInt8 := dkwX1_link_5 ++ dktX1_link_6
def dkwX1_link_4 : List UInt8 := [54, 5, 21, 5, 156, 0, 6, 21, 5, 172, 42, 28, 33, 182, 1, 29, 158, 0, 6, 16, 251, 172, 42]
abbrev dktX1_link_4 : List UInt8 := dkwX1_link_4 ++ dktX1_link_5
def dkwX1_link_3 : List UInt8 := [180, 0, 182, 4, 160, 0, 8, 16, 249, 167, 0, 5, 16, 245, 172, 42, 28, 42, 180, 0, 54, 182, 1, 25]
abbrev dktX1_link_3 : List UInt8 := dkwX1_link_3 ++ dktX1_link_4
def dkwX1_link_2 : List UInt8 := [180, 0, 185, 154, 0, 6, 16, 252, 172, 42, 180, 0, 58, 180, 0, 182, 5, 159, 0, 22, 42, 180, 0, 58]
abbrev dktX1_link_2 : List UInt8 := dkwX1_link_2 ++ dktX1_link_3
def dkwX1_link_1 : List UInt8 := [180, 0, 58, 182, 0, 214, 153, 0, 24, 42, 180, 0, 58, 180, 0, 182, 5, 160, 0, 16, 42, 180, 0, 58]
abbrev dktX1_link_1 : List UInt8 := dkwX1_link_1 ++ dktX1_link_2
def dkwX1_link_0 : List UInt8 := [42, 180, 0, 28, 154, 0, 6, 16, 254, 172, 33, 184, 1, 18, 154, 0, 6, 16, 253, 172, 42, 27, 42]
abbrev dktX1_link_0 : List UInt8 := dkwX1_link_0 ++ dktX1_link_1
theorem dksX1_link_0 : cX1_link.data.toList.drop 0 = dktX1_link_0 := by decide +kernel
theorem dksX1_link_1 : cX1_link.data.toList.drop 23 = dktX1_link_1 := dk_seg dksX1_link_0 23 rfl rfl
theorem dksX1_link_2 : cX1_link.data.toList.drop 47 = dktX1_link_2 := dk_seg dksX1_link_1 24 rfl rfl
theorem dksX1_link_3 : cX1_link.data.toList.drop 71 = dktX1_link_3 := dk_seg dksX1_link_2 24 rfl rfl
theorem dksX1_link_4 : cX1_link.data.toList.drop 95 = dktX1_link_4 := dk_seg dksX1_link_3 24 rfl rfl
theorem dksX1_link_5 : cX1_link.data.toList.drop 118 = dktX1_link_5 := dk_seg dksX1_link_4 23 rfl rfl
theorem dksX1_link_6 : cX1_link.data.toList.drop 142 = dktX1_link_6 := dk_seg dksX1_link_5 24 rfl rfl
theorem dksX1_link_7 : cX1_link.data.toList.drop 165 = dktX1_link_7 := dk_seg dksX1_link_6 23 rfl rfl
theorem dksX1_link_8 : cX1_link.data.toList.drop 189 = dktX1_link_8 := dk_seg dksX1_link_7 24 rfl rfl
theorem dksX1_link_9 : cX1_link.data.toList.drop 213 = dktX1_link_9 := dk_seg dksX1_link_8 24 rfl rfl
theorem dX1_link_0 : decode cX1_link 0 = .ok (.aload_n 0, 1) := dk_42 (dk_at dksX1_link_0 0 rfl rfl)
theorem dX1_link_1 : decode cX1_link 1 = .ok (.getfield 28, 3) := dk_180 0 28 (dk_at dksX1_link_0 1 rfl rfl)
theorem dX1_link_4 : decode cX1_link 4 = .ok (.ifCond .ne 6, 3) := dk_154 0 6 (dk_at dksX1_link_0 4 rfl rfl)
theorem dX1_link_7 : decode cX1_link 7 = .ok (.bipush (-2), 2) := dk_16 254 (dk_at dksX1_link_0 7 rfl rfl)
theorem dX1_link_9 : decode cX1_link 9 = .ok (.ireturn, 1) := dk_172 (dk_at dksX1_link_0 9 rfl rfl)
theorem dX1_link_10 : decode cX1_link 10 = .ok (.lload_n 3, 1) := dk_33 (dk_at dksX1_link_0 10 rfl rfl)
theorem dX1_link_11 : decode cX1_link 11 = .ok (.invokestatic 274, 3) := dk_184 1 18 (dk_at dksX1_link_0 11 rfl rfl)
theorem dX1_link_14 : decode cX1_link 14 = .ok (.ifCond .ne 6, 3) := dk_154 0 6 (dk_at dksX1_link_0 14 rfl rfl)
theorem dX1_link_17 : decode cX1_link 17 = .ok (.bipush (-3), 2) := dk_16 253 (dk_at dksX1_link_0 17 rfl rfl)
theorem dX1_link_19 : decode cX1_link 19 = .ok (.ireturn, 1) := dk_172 (dk_at dksX1_link_0 19 rfl rfl)
theorem dX1_link_20 : decode cX1_link 20 = .ok (.aload_n 0, 1) := dk_42 (dk_at dksX1_link_0 20 rfl rfl)
theorem dX1_link_21 : decode cX1_link 21 = .ok (.iload_n 1, 1) := dk_27 (dk_at dksX1_link_0 21 rfl rfl)
theorem dX1_link_22 : decode cX1_link 22 = .ok (.aload_n 0, 1) := dk_42 (dk_at dksX1_link_0 22 rfl rfl)
theorem dX1_link_23 : decode cX1_link 23 = .ok (.getfield 58, 3) := dk_180 0 58 (dk_at dksX1_link_1 0 rfl rfl)
theorem dX1_link_26 : decode cX1_link 26 = .ok (.invokevirtual 214, 3) := dk_182 0 214 (dk_at dksX1_link_1 3 rfl rfl)
theorem dX1_link_29 : decode cX1_link 29 = .ok (.ifCond .eq 24, 3) := dk_153 0 24 (dk_at dksX1_link_1 6 rfl rfl)
theorem dX1_link_32 : decode cX1_link 32 = .ok (.aload_n 0, 1) := dk_42 (dk_at dksX1_link_1 9 rfl rfl)
theorem dX1_link_33 : decode cX1_link 33 = .ok (.getfield 58, 3) := dk_180 0 58 (dk_at dksX1_link_1 10 rfl rfl)
theorem dX1_link_36 : decode cX1_link 36 = .ok (.getfield 182, 3) := dk_180 0 182 (dk_at dksX1_link_1 13 rfl rfl)
theorem dX1_link_39 : decode cX1_link 39 = .ok (.iconst 2, 1) := dk_5 (dk_at dksX1_link_1 16 rfl rfl)
theorem dX1_link_40 : decode cX1_link 40 = .ok (.if_icmp .ne 16, 3) := dk_160 0 16 (dk_at dksX1_link_1 17 rfl rfl)
theorem dX1_link_43 : decode cX1_link 43 = .ok (.aload_n 0, 1) := dk_42 (dk_at dksX1_link_1 20 rfl rfl)
theorem dX1_link_44 : decode cX1_link 44 = .ok (.getfield 58, 3) := dk_180 0 58 (dk_at dksX1_link_1 21 rfl rfl)
theorem dX1_link_47 : decode cX1_link 47 = .ok (.getfield 185, 3) := dk_180 0 185 (dk_at dksX1_link_2 0 rfl rfl)
theorem dX1_link_50 : decode cX1_link 50 = .ok (.ifCond .ne 6, 3) := dk_154 0 6 (dk_at dksX1_link_2 3 rfl rfl)
theorem dX1_link_53 : decode cX1_link 53 = .ok (.bipush (-4), 2) := dk_16 252 (dk_at dksX1_link_2 6 rfl rfl)
theorem dX1_link_55 : decode cX1_link 55 = .ok (.ireturn, 1) := dk_172 (dk_at dksX1_link_2 8 rfl rfl)
theorem dX1_link_56 : decode cX1_link 56 = .ok (.aload_n 0, 1) := dk_42 (dk_at dksX1_link_2 9 rfl rfl)
theorem dX1_link_57 : decode cX1_link 57 = .ok (.getfield 58, 3) := dk_180 0 58 (dk_at dksX1_link_2 10 rfl rfl)
theorem dX1_link_60 : decode cX1_link 60 = .ok (.getfield 182, 3) := dk_180 0 182 (dk_at dksX1_link_2 13 rfl rfl)
theorem dX1_link_63 : decode cX1_link 63 = .ok (.iconst 2, 1) := dk_5 (dk_at dksX1_link_2 16 rfl rfl)
theorem dX1_link_64 : decode cX1_link 64 = .ok (.if_icmp .eq 22, 3) := dk_159 0 22 (dk_at dksX1_link_2 17 rfl rfl)
theorem dX1_link_67 : decode cX1_link 67 = .ok (.aload_n 0, 1) := dk_42 (dk_at dksX1_link_2 20 rfl rfl)
theorem dX1_link_68 : decode cX1_link 68 = .ok (.getfield 58, 3) := dk_180 0 58 (dk_at dksX1_link_2 21 rfl rfl)
theorem dX1_link_71 : decode cX1_link 71 = .ok (.getfield 182, 3) := dk_180 0 182 (dk_at dksX1_link_3 0 rfl rfl)
theorem dX1_link_74 : decode cX1_link 74 = .ok (.iconst 1, 1) := dk_4 (dk_at dksX1_link_3 3 rfl rfl)
theorem dX1_link_75 : decode cX1_link 75 = .ok (.if_icmp .ne 8, 3) := dk_160 0 8 (dk_at dksX1_link_3 4 rfl rfl)
theorem dX1_link_78 : decode cX1_link 78 = .ok (.bipush (-7), 2) := dk_16 249 (dk_at dksX1_link_3 7 rfl rfl)
theorem dX1_link_80 : decode cX1_link 80 = .ok (.goto 5, 3) := dk_167 0 5 (dk_at dksX1_link_3 9 rfl rfl)
theorem dX1_link_83 : decode cX1_link 83 = .ok (.bipush (-11), 2) := dk_16 245 (dk_at dksX1_link_3 12 rfl rfl)
theorem dX1_link_85 : decode cX1_link 85 = .ok (.ireturn, 1) := dk_172 (dk_at dksX1_link_3 14 rfl rfl)
theorem dX1_link_86 : decode cX1_link 86 = .ok (.aload_n 0, 1) := dk_42 (dk_at dksX1_link_3 15 rfl rfl)
theorem dX1_link_87 : decode cX1_link 87 = .ok (.iload_n 2, 1) := dk_28 (dk_at dksX1_link_3 16 rfl rfl)
theorem dX1_link_88 : decode cX1_link 88 = .ok (.aload_n 0, 1) := dk_42 (dk_at dksX1_link_3 17 rfl rfl)
theorem dX1_link_89 : decode cX1_link 89 = .ok (.getfield 54, 3) := dk_180 0 54 (dk_at dksX1_link_3 18 rfl rfl)
theorem dX1_link_92 : decode cX1_link 92 = .ok (.invokevirtual 281, 3) := dk_182 1 25 (dk_at dksX1_link_3 21 rfl rfl)
theorem dX1_link_95 : decode cX1_link 95 = .ok (.istore 5, 2) := dk_54 5 (dk_at dksX1_link_4 0 rfl rfl)
theorem dX1_link_97 : decode cX1_link 97 = .ok (.iload 5, 2) := dk_21 5 (dk_at dksX1_link_4 2 rfl rfl)
theorem dX1_link_99 : decode cX1_link 99 = .ok (.ifCond .ge 6, 3) := dk_156 0 6 (dk_at dksX1_link_4 4 rfl rfl)
theorem dX1_link_102 : decode cX1_link 102 = .ok (.iload 5, 2) := dk_21 5 (dk_at dksX1_link_4 7 rfl rfl)
theorem dX1_link_104 : decode cX1_link 104 = .ok (.ireturn, 1) := dk_172 (dk_at dksX1_link_4 9 rfl rfl)
theorem dX1_link_105 : decode cX1_link 105 = .ok (.aload_n 0, 1) := dk_42 (dk_at dksX1_link_4 10 rfl rfl)
theorem dX1_link_106 : decode cX1_link 106 = .ok (.iload_n 2, 1) := dk_28 (dk_at dksX1_link_4 11 rfl rfl)
theorem dX1_link_107 : decode cX1_link 107 = .ok (.lload_n 3, 1) := dk_33 (dk_at dksX1_link_4 12 rfl rfl)
theorem dX1_link_108 : decode cX1_link 108 = .ok (.invokevirtual 285, 3) := dk_182 1 29 (dk_at dksX1_link_4 13 rfl rfl)
theorem dX1_link_111 : decode cX1_link 111 = .ok (.ifCond .le 6, 3) := dk_158 0 6 (dk_at dksX1_link_4 16 rfl rfl)
theorem dX1_link_114 : decode cX1_link 114 = .ok (.bipush (-5), 2) := dk_16 251 (dk_at dksX1_link_4 19 rfl rfl)
theorem dX1_link_116 : decode cX1_link 116 = .ok (.ireturn, 1) := dk_172 (dk_at dksX1_link_4 21 rfl rfl)
theorem dX1_link_117 : decode cX1_link 117 = .ok (.aload_n 0, 1) := dk_42 (dk_at dksX1_link_4 22 rfl rfl)
theorem dX1_link_118 : decode cX1_link 118 = .ok (.getfield 130, 3) := dk_180 0 130 (dk_at dksX1_link_5 0 rfl rfl)
theorem dX1_link_121 : decode cX1_link 121 = .ok (.bipush 48, 2) := dk_16 48 (dk_at dksX1_link_5 3 rfl rfl)
theorem dX1_link_123 : decode cX1_link 123 = .ok (.iadd, 1) := dk_96 (dk_at dksX1_link_5 5 rfl rfl)
theorem dX1_link_124 : decode cX1_link 124 = .ok (.sipush 192, 3) := dk_17 0 192 (dk_at dksX1_link_5 6 rfl rfl)
theorem dX1_link_127 : decode cX1_link 127 = .ok (.iadd, 1) := dk_96 (dk_at dksX1_link_5 9 rfl rfl)
theorem dX1_link_128 : decode cX1_link 128 = .ok (.aload_n 0, 1) := dk_42 (dk_at dksX1_link_5 10 rfl rfl)
theorem dX1_link_129 : decode cX1_link 129 = .ok (.getfield 121, 3) := dk_180 0 121 (dk_at dksX1_link_5 11 rfl rfl)
theorem dX1_link_132 : decode cX1_link 132 = .ok (.if_icmp .le 6, 3) := dk_164 0 6 (dk_at dksX1_link_5 14 rfl rfl)
theorem dX1_link_135 : decode cX1_link 135 = .ok (.bipush (-10), 2) := dk_16 246 (dk_at dksX1_link_5 17 rfl rfl)
theorem dX1_link_137 : decode cX1_link 137 = .ok (.ireturn, 1) := dk_172 (dk_at dksX1_link_5 19 rfl rfl)
theorem dX1_link_138 : decode cX1_link 138 = .ok (.aload_n 0, 1) := dk_42 (dk_at dksX1_link_5 20 rfl rfl)
theorem dX1_link_139 : decode cX1_link 139 = .ok (.getfield 58, 3) := dk_180 0 58 (dk_at dksX1_link_5 21 rfl rfl)
theorem dX1_link_142 : decode cX1_link 142 = .ok (.dup, 1) := dk_89 (dk_at dksX1_link_6 0 rfl rfl)
theorem dX1_link_143 : decode cX1_link 143 = .ok (.getfield 185, 3) := dk_180 0 185 (dk_at dksX1_link_6 1 rfl rfl)
theorem dX1_link_146 : decode cX1_link 146 = .ok (.iconst 1, 1) := dk_4 (dk_at dksX1_link_6 4 rfl rfl)
theorem dX1_link_147 : decode cX1_link 147 = .ok (.iadd, 1) := dk_96 (dk_at dksX1_link_6 5 rfl rfl)
theorem dX1_link_148 : decode cX1_link 148 = .ok (.putfield 185, 3) := dk_181 0 185 (dk_at dksX1_link_6 6 rfl rfl)
theorem dX1_link_151 : decode cX1_link 151 = .ok (.aload_n 0, 1) := dk_42 (dk_at dksX1_link_6 9 rfl rfl)
theorem dX1_link_152 : decode cX1_link 152 = .ok (.getfield 54, 3) := dk_180 0 54 (dk_at dksX1_link_6 10 rfl rfl)
theorem dX1_link_155 : decode cX1_link 155 = .ok (.dup, 1) := dk_89 (dk_at dksX1_link_6 13 rfl rfl)
theorem dX1_link_156 : decode cX1_link 156 = .ok (.getfield 189, 3) := dk_180 0 189 (dk_at dksX1_link_6 14 rfl rfl)
theorem dX1_link_159 : decode cX1_link 159 = .ok (.iconst 1, 1) := dk_4 (dk_at dksX1_link_6 17 rfl rfl)
theorem dX1_link_160 : decode cX1_link 160 = .ok (.iadd, 1) := dk_96 (dk_at dksX1_link_6 18 rfl rfl)
theorem dX1_link_161 : decode cX1_link 161 = .ok (.putfield 189, 3) := dk_181 0 189 (dk_at dksX1_link_6 19 rfl rfl)
theorem dX1_link_164 : decode cX1_link 164 = .ok (.aload_n 0, 1) := dk_42 (dk_at dksX1_link_6 22 rfl rfl)
theorem dX1_link_165 : decode cX1_link 165 = .ok (.invokevirtual 294, 3) := dk_182 1 38 (dk_at dksX1_link_7 0 rfl rfl)
theorem dX1_link_168 : decode cX1_link 168 = .ok (.aload_n 0, 1) := dk_42 (dk_at dksX1_link_7 3 rfl rfl)
theorem dX1_link_169 : decode cX1_link 169 = .ok (.iload_n 2, 1) := dk_28 (dk_at dksX1_link_7 4 rfl rfl)
theorem dX1_link_170 : decode cX1_link 170 = .ok (.lload_n 3, 1) := dk_33 (dk_at dksX1_link_7 5 rfl rfl)
theorem dX1_link_171 : decode cX1_link 171 = .ok (.iload_n 1, 1) := dk_27 (dk_at dksX1_link_7 6 rfl rfl)
theorem dX1_link_172 : decode cX1_link 172 = .ok (.aload_n 0, 1) := dk_42 (dk_at dksX1_link_7 7 rfl rfl)
theorem dX1_link_173 : decode cX1_link 173 = .ok (.getfield 207, 3) := dk_180 0 207 (dk_at dksX1_link_7 8 rfl rfl)
theorem dX1_link_176 : decode cX1_link 176 = .ok (.invokevirtual 296, 3) := dk_182 1 40 (dk_at dksX1_link_7 11 rfl rfl)
theorem dX1_link_179 : decode cX1_link 179 = .ok (.aload_n 0, 1) := dk_42 (dk_at dksX1_link_7 14 rfl rfl)
theorem dX1_link_180 : decode cX1_link 180 = .ok (.aload_n 0, 1) := dk_42 (dk_at dksX1_link_7 15 rfl rfl)
theorem dX1_link_181 : decode cX1_link 181 = .ok (.getfield 58, 3) := dk_180 0 58 (dk_at dksX1_link_7 16 rfl rfl)
theorem dX1_link_184 : decode cX1_link 184 = .ok (.iconst 0, 1) := dk_3 (dk_at dksX1_link_7 19 rfl rfl)
theorem dX1_link_185 : decode cX1_link 185 = .ok (.invokevirtual 266, 3) := dk_182 1 10 (dk_at dksX1_link_7 20 rfl rfl)
theorem dX1_link_188 : decode cX1_link 188 = .ok (.aload_n 0, 1) := dk_42 (dk_at dksX1_link_7 23 rfl rfl)
theorem dX1_link_189 : decode cX1_link 189 = .ok (.aload_n 0, 1) := dk_42 (dk_at dksX1_link_8 0 rfl rfl)
theorem dX1_link_190 : decode cX1_link 190 = .ok (.getfield 54, 3) := dk_180 0 54 (dk_at dksX1_link_8 1 rfl rfl)
theorem dX1_link_193 : decode cX1_link 193 = .ok (.iconst 1, 1) := dk_4 (dk_at dksX1_link_8 4 rfl rfl)
theorem dX1_link_194 : decode cX1_link 194 = .ok (.invokevirtual 266, 3) := dk_182 1 10 (dk_at dksX1_link_8 5 rfl rfl)
theorem dX1_link_197 : decode cX1_link 197 = .ok (.aload_n 0, 1) := dk_42 (dk_at dksX1_link_8 8 rfl rfl)
theorem dX1_link_198 : decode cX1_link 198 = .ok (.invokevirtual 310, 3) := dk_182 1 54 (dk_at dksX1_link_8 9 rfl rfl)
theorem dX1_link_201 : decode cX1_link 201 = .ok (.aload_n 0, 1) := dk_42 (dk_at dksX1_link_8 12 rfl rfl)
theorem dX1_link_202 : decode cX1_link 202 = .ok (.dup, 1) := dk_89 (dk_at dksX1_link_8 13 rfl rfl)
theorem dX1_link_203 : decode cX1_link 203 = .ok (.getfield 130, 3) := dk_180 0 130 (dk_at dksX1_link_8 14 rfl rfl)
theorem dX1_link_206 : decode cX1_link 206 = .ok (.sipush 240, 3) := dk_17 0 240 (dk_at dksX1_link_8 17 rfl rfl)
theorem dX1_link_209 : decode cX1_link 209 = .ok (.iadd, 1) := dk_96 (dk_at dksX1_link_8 20 rfl rfl)
theorem dX1_link_210 : decode cX1_link 210 = .ok (.putfield 130, 3) := dk_181 0 130 (dk_at dksX1_link_8 21 rfl rfl)
theorem dX1_link_213 : decode cX1_link 213 = .ok (.aload_n 0, 1) := dk_42 (dk_at dksX1_link_9 0 rfl rfl)
theorem dX1_link_214 : decode cX1_link 214 = .ok (.getfield 58, 3) := dk_180 0 58 (dk_at dksX1_link_9 1 rfl rfl)
theorem dX1_link_217 : decode cX1_link 217 = .ok (.getfield 185, 3) := dk_180 0 185 (dk_at dksX1_link_9 4 rfl rfl)
theorem dX1_link_220 : decode cX1_link 220 = .ok (.ireturn, 1) := dk_172 (dk_at dksX1_link_9 7 rfl rfl)
abbrev cX1_unlink : ByteArray := prog_1_method_31_code
def yX1_unlink : MethodName := ⟨RX1, "unlink", "(IJ)I"⟩
def dkwX1_unlink_2 : List UInt8 := [180, 0, 58, 180, 0, 185, 172]
abbrev dktX1_unlink_2 : List UInt8 := dkwX1_unlink_2 ++ []
def dkwX1_unlink_1 : List UInt8 := [21, 4, 172, 42, 180, 0, 58, 180, 0, 182, 4, 160, 0, 6, 16, 249, 172, 42, 27, 32, 182, 1, 62, 42]
abbrev dktX1_unlink_1 : List UInt8 := dkwX1_unlink_1 ++ dktX1_unlink_2
def dkwX1_unlink_0 : List UInt8 := [42, 180, 0, 28, 154, 0, 6, 16, 254, 172, 42, 27, 32, 182, 1, 60, 54, 4, 21, 4, 156, 0, 6]
abbrev dktX1_unlink_0 : List UInt8 := dkwX1_unlink_0 ++ dktX1_unlink_1
theorem dksX1_unlink_0 : cX1_unlink.data.toList.drop 0 = dktX1_unlink_0 := by decide +kernel
theorem dksX1_unlink_1 : cX1_unlink.data.toList.drop 23 = dktX1_unlink_1 := dk_seg dksX1_unlink_0 23 rfl rfl
theorem dksX1_unlink_2 : cX1_unlink.data.toList.drop 47 = dktX1_unlink_2 := dk_seg dksX1_unlink_1 24 rfl rfl
theorem dX1_unlink_0 : decode cX1_unlink 0 = .ok (.aload_n 0, 1) := dk_42 (dk_at dksX1_unlink_0 0 rfl rfl)
theorem dX1_unlink_1 : decode cX1_unlink 1 = .ok (.getfield 28, 3) := dk_180 0 28 (dk_at dksX1_unlink_0 1 rfl rfl)
theorem dX1_unlink_4 : decode cX1_unlink 4 = .ok (.ifCond .ne 6, 3) := dk_154 0 6 (dk_at dksX1_unlink_0 4 rfl rfl)
theorem dX1_unlink_7 : decode cX1_unlink 7 = .ok (.bipush (-2), 2) := dk_16 254 (dk_at dksX1_unlink_0 7 rfl rfl)
theorem dX1_unlink_9 : decode cX1_unlink 9 = .ok (.ireturn, 1) := dk_172 (dk_at dksX1_unlink_0 9 rfl rfl)
theorem dX1_unlink_10 : decode cX1_unlink 10 = .ok (.aload_n 0, 1) := dk_42 (dk_at dksX1_unlink_0 10 rfl rfl)
theorem dX1_unlink_11 : decode cX1_unlink 11 = .ok (.iload_n 1, 1) := dk_27 (dk_at dksX1_unlink_0 11 rfl rfl)
theorem dX1_unlink_12 : decode cX1_unlink 12 = .ok (.lload_n 2, 1) := dk_32 (dk_at dksX1_unlink_0 12 rfl rfl)
theorem dX1_unlink_13 : decode cX1_unlink 13 = .ok (.invokevirtual 316, 3) := dk_182 1 60 (dk_at dksX1_unlink_0 13 rfl rfl)
theorem dX1_unlink_16 : decode cX1_unlink 16 = .ok (.istore 4, 2) := dk_54 4 (dk_at dksX1_unlink_0 16 rfl rfl)
theorem dX1_unlink_18 : decode cX1_unlink 18 = .ok (.iload 4, 2) := dk_21 4 (dk_at dksX1_unlink_0 18 rfl rfl)
theorem dX1_unlink_20 : decode cX1_unlink 20 = .ok (.ifCond .ge 6, 3) := dk_156 0 6 (dk_at dksX1_unlink_0 20 rfl rfl)
theorem dX1_unlink_23 : decode cX1_unlink 23 = .ok (.iload 4, 2) := dk_21 4 (dk_at dksX1_unlink_1 0 rfl rfl)
theorem dX1_unlink_25 : decode cX1_unlink 25 = .ok (.ireturn, 1) := dk_172 (dk_at dksX1_unlink_1 2 rfl rfl)
theorem dX1_unlink_26 : decode cX1_unlink 26 = .ok (.aload_n 0, 1) := dk_42 (dk_at dksX1_unlink_1 3 rfl rfl)
theorem dX1_unlink_27 : decode cX1_unlink 27 = .ok (.getfield 58, 3) := dk_180 0 58 (dk_at dksX1_unlink_1 4 rfl rfl)
theorem dX1_unlink_30 : decode cX1_unlink 30 = .ok (.getfield 182, 3) := dk_180 0 182 (dk_at dksX1_unlink_1 7 rfl rfl)
theorem dX1_unlink_33 : decode cX1_unlink 33 = .ok (.iconst 1, 1) := dk_4 (dk_at dksX1_unlink_1 10 rfl rfl)
theorem dX1_unlink_34 : decode cX1_unlink 34 = .ok (.if_icmp .ne 6, 3) := dk_160 0 6 (dk_at dksX1_unlink_1 11 rfl rfl)
theorem dX1_unlink_37 : decode cX1_unlink 37 = .ok (.bipush (-7), 2) := dk_16 249 (dk_at dksX1_unlink_1 14 rfl rfl)
theorem dX1_unlink_39 : decode cX1_unlink 39 = .ok (.ireturn, 1) := dk_172 (dk_at dksX1_unlink_1 16 rfl rfl)
theorem dX1_unlink_40 : decode cX1_unlink 40 = .ok (.aload_n 0, 1) := dk_42 (dk_at dksX1_unlink_1 17 rfl rfl)
theorem dX1_unlink_41 : decode cX1_unlink 41 = .ok (.iload_n 1, 1) := dk_27 (dk_at dksX1_unlink_1 18 rfl rfl)
theorem dX1_unlink_42 : decode cX1_unlink 42 = .ok (.lload_n 2, 1) := dk_32 (dk_at dksX1_unlink_1 19 rfl rfl)
theorem dX1_unlink_43 : decode cX1_unlink 43 = .ok (.invokevirtual 318, 3) := dk_182 1 62 (dk_at dksX1_unlink_1 20 rfl rfl)
theorem dX1_unlink_46 : decode cX1_unlink 46 = .ok (.aload_n 0, 1) := dk_42 (dk_at dksX1_unlink_1 23 rfl rfl)
theorem dX1_unlink_47 : decode cX1_unlink 47 = .ok (.getfield 58, 3) := dk_180 0 58 (dk_at dksX1_unlink_2 0 rfl rfl)
theorem dX1_unlink_50 : decode cX1_unlink 50 = .ok (.getfield 185, 3) := dk_180 0 185 (dk_at dksX1_unlink_2 3 rfl rfl)
theorem dX1_unlink_53 : decode cX1_unlink 53 = .ok (.ireturn, 1) := dk_172 (dk_at dksX1_unlink_2 6 rfl rfl)
abbrev cX1_named : ByteArray := prog_1_method_29_code
def yX1_named : MethodName := ⟨RX1, "named", "(IJ)I"⟩
def dkwX1_named_2 : List UInt8 := [167, 0, 5, 16, 252, 172]
abbrev dktX1_named_2 : List UInt8 := dkwX1_named_2 ++ []
def dkwX1_named_1 : List UInt8 := [156, 0, 6, 21, 4, 172, 42, 42, 27, 32, 182, 1, 29, 42, 180, 0, 58, 182, 0, 214, 153, 0, 7, 3]
abbrev dktX1_named_1 : List UInt8 := dkwX1_named_1 ++ dktX1_named_2
def dkwX1_named_0 : List UInt8 := [32, 184, 1, 18, 154, 0, 6, 16, 253, 172, 42, 27, 42, 180, 0, 54, 182, 1, 25, 54, 4, 21, 4]
abbrev dktX1_named_0 : List UInt8 := dkwX1_named_0 ++ dktX1_named_1
theorem dksX1_named_0 : cX1_named.data.toList.drop 0 = dktX1_named_0 := by decide +kernel
theorem dksX1_named_1 : cX1_named.data.toList.drop 23 = dktX1_named_1 := dk_seg dksX1_named_0 23 rfl rfl
theorem dksX1_named_2 : cX1_named.data.toList.drop 47 = dktX1_named_2 := dk_seg dksX1_named_1 24 rfl rfl
theorem dX1_named_0 : decode cX1_named 0 = .ok (.lload_n 2, 1) := dk_32 (dk_at dksX1_named_0 0 rfl rfl)
theorem dX1_named_1 : decode cX1_named 1 = .ok (.invokestatic 274, 3) := dk_184 1 18 (dk_at dksX1_named_0 1 rfl rfl)
theorem dX1_named_4 : decode cX1_named 4 = .ok (.ifCond .ne 6, 3) := dk_154 0 6 (dk_at dksX1_named_0 4 rfl rfl)
theorem dX1_named_7 : decode cX1_named 7 = .ok (.bipush (-3), 2) := dk_16 253 (dk_at dksX1_named_0 7 rfl rfl)
theorem dX1_named_9 : decode cX1_named 9 = .ok (.ireturn, 1) := dk_172 (dk_at dksX1_named_0 9 rfl rfl)
theorem dX1_named_10 : decode cX1_named 10 = .ok (.aload_n 0, 1) := dk_42 (dk_at dksX1_named_0 10 rfl rfl)
theorem dX1_named_11 : decode cX1_named 11 = .ok (.iload_n 1, 1) := dk_27 (dk_at dksX1_named_0 11 rfl rfl)
theorem dX1_named_12 : decode cX1_named 12 = .ok (.aload_n 0, 1) := dk_42 (dk_at dksX1_named_0 12 rfl rfl)
theorem dX1_named_13 : decode cX1_named 13 = .ok (.getfield 54, 3) := dk_180 0 54 (dk_at dksX1_named_0 13 rfl rfl)
theorem dX1_named_16 : decode cX1_named 16 = .ok (.invokevirtual 281, 3) := dk_182 1 25 (dk_at dksX1_named_0 16 rfl rfl)
theorem dX1_named_19 : decode cX1_named 19 = .ok (.istore 4, 2) := dk_54 4 (dk_at dksX1_named_0 19 rfl rfl)
theorem dX1_named_21 : decode cX1_named 21 = .ok (.iload 4, 2) := dk_21 4 (dk_at dksX1_named_0 21 rfl rfl)
theorem dX1_named_23 : decode cX1_named 23 = .ok (.ifCond .ge 6, 3) := dk_156 0 6 (dk_at dksX1_named_1 0 rfl rfl)
theorem dX1_named_26 : decode cX1_named 26 = .ok (.iload 4, 2) := dk_21 4 (dk_at dksX1_named_1 3 rfl rfl)
theorem dX1_named_28 : decode cX1_named 28 = .ok (.ireturn, 1) := dk_172 (dk_at dksX1_named_1 5 rfl rfl)
theorem dX1_named_29 : decode cX1_named 29 = .ok (.aload_n 0, 1) := dk_42 (dk_at dksX1_named_1 6 rfl rfl)
theorem dX1_named_30 : decode cX1_named 30 = .ok (.aload_n 0, 1) := dk_42 (dk_at dksX1_named_1 7 rfl rfl)
theorem dX1_named_31 : decode cX1_named 31 = .ok (.iload_n 1, 1) := dk_27 (dk_at dksX1_named_1 8 rfl rfl)
theorem dX1_named_32 : decode cX1_named 32 = .ok (.lload_n 2, 1) := dk_32 (dk_at dksX1_named_1 9 rfl rfl)
theorem dX1_named_33 : decode cX1_named 33 = .ok (.invokevirtual 285, 3) := dk_182 1 29 (dk_at dksX1_named_1 10 rfl rfl)
theorem dX1_named_36 : decode cX1_named 36 = .ok (.aload_n 0, 1) := dk_42 (dk_at dksX1_named_1 13 rfl rfl)
theorem dX1_named_37 : decode cX1_named 37 = .ok (.getfield 58, 3) := dk_180 0 58 (dk_at dksX1_named_1 14 rfl rfl)
theorem dX1_named_40 : decode cX1_named 40 = .ok (.invokevirtual 214, 3) := dk_182 0 214 (dk_at dksX1_named_1 17 rfl rfl)
theorem dX1_named_43 : decode cX1_named 43 = .ok (.ifCond .eq 7, 3) := dk_153 0 7 (dk_at dksX1_named_1 20 rfl rfl)
theorem dX1_named_46 : decode cX1_named 46 = .ok (.iconst 0, 1) := dk_3 (dk_at dksX1_named_1 23 rfl rfl)
theorem dX1_named_47 : decode cX1_named 47 = .ok (.goto 5, 3) := dk_167 0 5 (dk_at dksX1_named_2 0 rfl rfl)
theorem dX1_named_50 : decode cX1_named 50 = .ok (.bipush (-4), 2) := dk_16 252 (dk_at dksX1_named_2 3 rfl rfl)
theorem dX1_named_52 : decode cX1_named 52 = .ok (.ireturn, 1) := dk_172 (dk_at dksX1_named_2 5 rfl rfl)
abbrev cX1_unname : ByteArray := prog_1_method_30_code
def yX1_unname : MethodName := ⟨RX1, "unname", "(IJ)V"⟩
def dkwX1_unname_2 : List UInt8 := [182, 1, 56, 87, 42, 42, 180, 0, 54, 4, 182, 1, 10, 42, 182, 1, 54, 177]
abbrev dktX1_unname_2 : List UInt8 := dkwX1_unname_2 ++ []
def dkwX1_unname_1 : List UInt8 := [181, 0, 130, 42, 182, 1, 38, 42, 27, 32, 3, 42, 180, 0, 207, 182, 1, 40, 42, 42, 180, 0, 58, 3]
abbrev dktX1_unname_1 : List UInt8 := dkwX1_unname_1 ++ dktX1_unname_2
def dkwX1_unname_0 : List UInt8 := [42, 180, 0, 54, 89, 180, 0, 189, 4, 100, 181, 0, 189, 42, 89, 180, 0, 130, 17, 0, 240, 100]
abbrev dktX1_unname_0 : List UInt8 := dkwX1_unname_0 ++ dktX1_unname_1
theorem dksX1_unname_0 : cX1_unname.data.toList.drop 0 = dktX1_unname_0 := by decide +kernel
theorem dksX1_unname_1 : cX1_unname.data.toList.drop 22 = dktX1_unname_1 := dk_seg dksX1_unname_0 22 rfl rfl
theorem dksX1_unname_2 : cX1_unname.data.toList.drop 46 = dktX1_unname_2 := dk_seg dksX1_unname_1 24 rfl rfl
theorem dX1_unname_0 : decode cX1_unname 0 = .ok (.aload_n 0, 1) := dk_42 (dk_at dksX1_unname_0 0 rfl rfl)
theorem dX1_unname_1 : decode cX1_unname 1 = .ok (.getfield 54, 3) := dk_180 0 54 (dk_at dksX1_unname_0 1 rfl rfl)
theorem dX1_unname_4 : decode cX1_unname 4 = .ok (.dup, 1) := dk_89 (dk_at dksX1_unname_0 4 rfl rfl)
theorem dX1_unname_5 : decode cX1_unname 5 = .ok (.getfield 189, 3) := dk_180 0 189 (dk_at dksX1_unname_0 5 rfl rfl)
theorem dX1_unname_8 : decode cX1_unname 8 = .ok (.iconst 1, 1) := dk_4 (dk_at dksX1_unname_0 8 rfl rfl)
theorem dX1_unname_9 : decode cX1_unname 9 = .ok (.isub, 1) := dk_100 (dk_at dksX1_unname_0 9 rfl rfl)
theorem dX1_unname_10 : decode cX1_unname 10 = .ok (.putfield 189, 3) := dk_181 0 189 (dk_at dksX1_unname_0 10 rfl rfl)
theorem dX1_unname_13 : decode cX1_unname 13 = .ok (.aload_n 0, 1) := dk_42 (dk_at dksX1_unname_0 13 rfl rfl)
theorem dX1_unname_14 : decode cX1_unname 14 = .ok (.dup, 1) := dk_89 (dk_at dksX1_unname_0 14 rfl rfl)
theorem dX1_unname_15 : decode cX1_unname 15 = .ok (.getfield 130, 3) := dk_180 0 130 (dk_at dksX1_unname_0 15 rfl rfl)
theorem dX1_unname_18 : decode cX1_unname 18 = .ok (.sipush 240, 3) := dk_17 0 240 (dk_at dksX1_unname_0 18 rfl rfl)
theorem dX1_unname_21 : decode cX1_unname 21 = .ok (.isub, 1) := dk_100 (dk_at dksX1_unname_0 21 rfl rfl)
theorem dX1_unname_22 : decode cX1_unname 22 = .ok (.putfield 130, 3) := dk_181 0 130 (dk_at dksX1_unname_1 0 rfl rfl)
theorem dX1_unname_25 : decode cX1_unname 25 = .ok (.aload_n 0, 1) := dk_42 (dk_at dksX1_unname_1 3 rfl rfl)
theorem dX1_unname_26 : decode cX1_unname 26 = .ok (.invokevirtual 294, 3) := dk_182 1 38 (dk_at dksX1_unname_1 4 rfl rfl)
theorem dX1_unname_29 : decode cX1_unname 29 = .ok (.aload_n 0, 1) := dk_42 (dk_at dksX1_unname_1 7 rfl rfl)
theorem dX1_unname_30 : decode cX1_unname 30 = .ok (.iload_n 1, 1) := dk_27 (dk_at dksX1_unname_1 8 rfl rfl)
theorem dX1_unname_31 : decode cX1_unname 31 = .ok (.lload_n 2, 1) := dk_32 (dk_at dksX1_unname_1 9 rfl rfl)
theorem dX1_unname_32 : decode cX1_unname 32 = .ok (.iconst 0, 1) := dk_3 (dk_at dksX1_unname_1 10 rfl rfl)
theorem dX1_unname_33 : decode cX1_unname 33 = .ok (.aload_n 0, 1) := dk_42 (dk_at dksX1_unname_1 11 rfl rfl)
theorem dX1_unname_34 : decode cX1_unname 34 = .ok (.getfield 207, 3) := dk_180 0 207 (dk_at dksX1_unname_1 12 rfl rfl)
theorem dX1_unname_37 : decode cX1_unname 37 = .ok (.invokevirtual 296, 3) := dk_182 1 40 (dk_at dksX1_unname_1 15 rfl rfl)
theorem dX1_unname_40 : decode cX1_unname 40 = .ok (.aload_n 0, 1) := dk_42 (dk_at dksX1_unname_1 18 rfl rfl)
theorem dX1_unname_41 : decode cX1_unname 41 = .ok (.aload_n 0, 1) := dk_42 (dk_at dksX1_unname_1 19 rfl rfl)
theorem dX1_unname_42 : decode cX1_unname 42 = .ok (.getfield 58, 3) := dk_180 0 58 (dk_at dksX1_unname_1 20 rfl rfl)
theorem dX1_unname_45 : decode cX1_unname 45 = .ok (.iconst 0, 1) := dk_3 (dk_at dksX1_unname_1 23 rfl rfl)
theorem dX1_unname_46 : decode cX1_unname 46 = .ok (.invokevirtual 312, 3) := dk_182 1 56 (dk_at dksX1_unname_2 0 rfl rfl)
theorem dX1_unname_49 : decode cX1_unname 49 = .ok (.pop, 1) := dk_87 (dk_at dksX1_unname_2 3 rfl rfl)
theorem dX1_unname_50 : decode cX1_unname 50 = .ok (.aload_n 0, 1) := dk_42 (dk_at dksX1_unname_2 4 rfl rfl)
theorem dX1_unname_51 : decode cX1_unname 51 = .ok (.aload_n 0, 1) := dk_42 (dk_at dksX1_unname_2 5 rfl rfl)
theorem dX1_unname_52 : decode cX1_unname 52 = .ok (.getfield 54, 3) := dk_180 0 54 (dk_at dksX1_unname_2 6 rfl rfl)
theorem dX1_unname_55 : decode cX1_unname 55 = .ok (.iconst 1, 1) := dk_4 (dk_at dksX1_unname_2 9 rfl rfl)
theorem dX1_unname_56 : decode cX1_unname 56 = .ok (.invokevirtual 266, 3) := dk_182 1 10 (dk_at dksX1_unname_2 10 rfl rfl)
theorem dX1_unname_59 : decode cX1_unname 59 = .ok (.aload_n 0, 1) := dk_42 (dk_at dksX1_unname_2 13 rfl rfl)
theorem dX1_unname_60 : decode cX1_unname 60 = .ok (.invokevirtual 310, 3) := dk_182 1 54 (dk_at dksX1_unname_2 14 rfl rfl)
theorem dX1_unname_63 : decode cX1_unname 63 = .ok (.return_, 1) := dk_177 (dk_at dksX1_unname_2 17 rfl rfl)
abbrev cX1_loses : ByteArray := prog_1_method_23_code
def yX1_loses : MethodName := ⟨RX1, "loses", "(LNandHouse$Inode;Z)Z"⟩
def dkwX1_loses_3 : List UInt8 := [181, 0, 133, 43, 3, 181, 0, 182, 42, 43, 28, 182, 1, 10, 29, 172]
abbrev dktX1_loses_3 : List UInt8 := dkwX1_loses_3 ++ []
def dkwX1_loses_2 : List UInt8 := [42, 89, 180, 0, 130, 42, 43, 180, 0, 177, 182, 1, 7, 100, 181, 0, 130, 42, 89, 180, 0, 133, 4, 100]
abbrev dktX1_loses_2 : List UInt8 := dkwX1_loses_2 ++ dktX1_loses_3
def dkwX1_loses_1 : List UInt8 := [154, 0, 18, 42, 43, 180, 0, 177, 182, 1, 3, 154, 0, 7, 4, 167, 0, 4, 3, 62, 29, 153, 0, 35]
abbrev dktX1_loses_1 : List UInt8 := dkwX1_loses_1 ++ dktX1_loses_2
def dkwX1_loses_0 : List UInt8 := [43, 89, 180, 0, 185, 4, 100, 181, 0, 185, 43, 180, 0, 182, 4, 159, 0, 21, 43, 180, 0, 185]
abbrev dktX1_loses_0 : List UInt8 := dkwX1_loses_0 ++ dktX1_loses_1
theorem dksX1_loses_0 : cX1_loses.data.toList.drop 0 = dktX1_loses_0 := by decide +kernel
theorem dksX1_loses_1 : cX1_loses.data.toList.drop 22 = dktX1_loses_1 := dk_seg dksX1_loses_0 22 rfl rfl
theorem dksX1_loses_2 : cX1_loses.data.toList.drop 46 = dktX1_loses_2 := dk_seg dksX1_loses_1 24 rfl rfl
theorem dksX1_loses_3 : cX1_loses.data.toList.drop 70 = dktX1_loses_3 := dk_seg dksX1_loses_2 24 rfl rfl
theorem dX1_loses_0 : decode cX1_loses 0 = .ok (.aload_n 1, 1) := dk_43 (dk_at dksX1_loses_0 0 rfl rfl)
theorem dX1_loses_1 : decode cX1_loses 1 = .ok (.dup, 1) := dk_89 (dk_at dksX1_loses_0 1 rfl rfl)
theorem dX1_loses_2 : decode cX1_loses 2 = .ok (.getfield 185, 3) := dk_180 0 185 (dk_at dksX1_loses_0 2 rfl rfl)
theorem dX1_loses_5 : decode cX1_loses 5 = .ok (.iconst 1, 1) := dk_4 (dk_at dksX1_loses_0 5 rfl rfl)
theorem dX1_loses_6 : decode cX1_loses 6 = .ok (.isub, 1) := dk_100 (dk_at dksX1_loses_0 6 rfl rfl)
theorem dX1_loses_7 : decode cX1_loses 7 = .ok (.putfield 185, 3) := dk_181 0 185 (dk_at dksX1_loses_0 7 rfl rfl)
theorem dX1_loses_10 : decode cX1_loses 10 = .ok (.aload_n 1, 1) := dk_43 (dk_at dksX1_loses_0 10 rfl rfl)
theorem dX1_loses_11 : decode cX1_loses 11 = .ok (.getfield 182, 3) := dk_180 0 182 (dk_at dksX1_loses_0 11 rfl rfl)
theorem dX1_loses_14 : decode cX1_loses 14 = .ok (.iconst 1, 1) := dk_4 (dk_at dksX1_loses_0 14 rfl rfl)
theorem dX1_loses_15 : decode cX1_loses 15 = .ok (.if_icmp .eq 21, 3) := dk_159 0 21 (dk_at dksX1_loses_0 15 rfl rfl)
theorem dX1_loses_18 : decode cX1_loses 18 = .ok (.aload_n 1, 1) := dk_43 (dk_at dksX1_loses_0 18 rfl rfl)
theorem dX1_loses_19 : decode cX1_loses 19 = .ok (.getfield 185, 3) := dk_180 0 185 (dk_at dksX1_loses_0 19 rfl rfl)
theorem dX1_loses_22 : decode cX1_loses 22 = .ok (.ifCond .ne 18, 3) := dk_154 0 18 (dk_at dksX1_loses_1 0 rfl rfl)
theorem dX1_loses_25 : decode cX1_loses 25 = .ok (.aload_n 0, 1) := dk_42 (dk_at dksX1_loses_1 3 rfl rfl)
theorem dX1_loses_26 : decode cX1_loses 26 = .ok (.aload_n 1, 1) := dk_43 (dk_at dksX1_loses_1 4 rfl rfl)
theorem dX1_loses_27 : decode cX1_loses 27 = .ok (.getfield 177, 3) := dk_180 0 177 (dk_at dksX1_loses_1 5 rfl rfl)
theorem dX1_loses_30 : decode cX1_loses 30 = .ok (.invokevirtual 259, 3) := dk_182 1 3 (dk_at dksX1_loses_1 8 rfl rfl)
theorem dX1_loses_33 : decode cX1_loses 33 = .ok (.ifCond .ne 7, 3) := dk_154 0 7 (dk_at dksX1_loses_1 11 rfl rfl)
theorem dX1_loses_36 : decode cX1_loses 36 = .ok (.iconst 1, 1) := dk_4 (dk_at dksX1_loses_1 14 rfl rfl)
theorem dX1_loses_37 : decode cX1_loses 37 = .ok (.goto 4, 3) := dk_167 0 4 (dk_at dksX1_loses_1 15 rfl rfl)
theorem dX1_loses_40 : decode cX1_loses 40 = .ok (.iconst 0, 1) := dk_3 (dk_at dksX1_loses_1 18 rfl rfl)
theorem dX1_loses_41 : decode cX1_loses 41 = .ok (.istore_n 3, 1) := dk_62 (dk_at dksX1_loses_1 19 rfl rfl)
theorem dX1_loses_42 : decode cX1_loses 42 = .ok (.iload_n 3, 1) := dk_29 (dk_at dksX1_loses_1 20 rfl rfl)
theorem dX1_loses_43 : decode cX1_loses 43 = .ok (.ifCond .eq 35, 3) := dk_153 0 35 (dk_at dksX1_loses_1 21 rfl rfl)
theorem dX1_loses_46 : decode cX1_loses 46 = .ok (.aload_n 0, 1) := dk_42 (dk_at dksX1_loses_2 0 rfl rfl)
theorem dX1_loses_47 : decode cX1_loses 47 = .ok (.dup, 1) := dk_89 (dk_at dksX1_loses_2 1 rfl rfl)
theorem dX1_loses_48 : decode cX1_loses 48 = .ok (.getfield 130, 3) := dk_180 0 130 (dk_at dksX1_loses_2 2 rfl rfl)
theorem dX1_loses_51 : decode cX1_loses 51 = .ok (.aload_n 0, 1) := dk_42 (dk_at dksX1_loses_2 5 rfl rfl)
theorem dX1_loses_52 : decode cX1_loses 52 = .ok (.aload_n 1, 1) := dk_43 (dk_at dksX1_loses_2 6 rfl rfl)
theorem dX1_loses_53 : decode cX1_loses 53 = .ok (.getfield 177, 3) := dk_180 0 177 (dk_at dksX1_loses_2 7 rfl rfl)
theorem dX1_loses_56 : decode cX1_loses 56 = .ok (.invokevirtual 263, 3) := dk_182 1 7 (dk_at dksX1_loses_2 10 rfl rfl)
theorem dX1_loses_59 : decode cX1_loses 59 = .ok (.isub, 1) := dk_100 (dk_at dksX1_loses_2 13 rfl rfl)
theorem dX1_loses_60 : decode cX1_loses 60 = .ok (.putfield 130, 3) := dk_181 0 130 (dk_at dksX1_loses_2 14 rfl rfl)
theorem dX1_loses_63 : decode cX1_loses 63 = .ok (.aload_n 0, 1) := dk_42 (dk_at dksX1_loses_2 17 rfl rfl)
theorem dX1_loses_64 : decode cX1_loses 64 = .ok (.dup, 1) := dk_89 (dk_at dksX1_loses_2 18 rfl rfl)
theorem dX1_loses_65 : decode cX1_loses 65 = .ok (.getfield 133, 3) := dk_180 0 133 (dk_at dksX1_loses_2 19 rfl rfl)
theorem dX1_loses_68 : decode cX1_loses 68 = .ok (.iconst 1, 1) := dk_4 (dk_at dksX1_loses_2 22 rfl rfl)
theorem dX1_loses_69 : decode cX1_loses 69 = .ok (.isub, 1) := dk_100 (dk_at dksX1_loses_2 23 rfl rfl)
theorem dX1_loses_70 : decode cX1_loses 70 = .ok (.putfield 133, 3) := dk_181 0 133 (dk_at dksX1_loses_3 0 rfl rfl)
theorem dX1_loses_73 : decode cX1_loses 73 = .ok (.aload_n 1, 1) := dk_43 (dk_at dksX1_loses_3 3 rfl rfl)
theorem dX1_loses_74 : decode cX1_loses 74 = .ok (.iconst 0, 1) := dk_3 (dk_at dksX1_loses_3 4 rfl rfl)
theorem dX1_loses_75 : decode cX1_loses 75 = .ok (.putfield 182, 3) := dk_181 0 182 (dk_at dksX1_loses_3 5 rfl rfl)
theorem dX1_loses_78 : decode cX1_loses 78 = .ok (.aload_n 0, 1) := dk_42 (dk_at dksX1_loses_3 8 rfl rfl)
theorem dX1_loses_79 : decode cX1_loses 79 = .ok (.aload_n 1, 1) := dk_43 (dk_at dksX1_loses_3 9 rfl rfl)
theorem dX1_loses_80 : decode cX1_loses 80 = .ok (.iload_n 2, 1) := dk_28 (dk_at dksX1_loses_3 10 rfl rfl)
theorem dX1_loses_81 : decode cX1_loses 81 = .ok (.invokevirtual 266, 3) := dk_182 1 10 (dk_at dksX1_loses_3 11 rfl rfl)
theorem dX1_loses_84 : decode cX1_loses 84 = .ok (.iload_n 3, 1) := dk_29 (dk_at dksX1_loses_3 14 rfl rfl)
theorem dX1_loses_85 : decode cX1_loses 85 = .ok (.ireturn, 1) := dk_172 (dk_at dksX1_loses_3 15 rfl rfl)
abbrev cX1_isOpen : ByteArray := prog_1_method_17_code
def yX1_isOpen : MethodName := ⟨RX1, "isOpen", "(I)Z"⟩
def dkwX1_isOpen_1 : List UInt8 := [167, 255, 235, 3, 172]
abbrev dktX1_isOpen_1 : List UInt8 := dkwX1_isOpen_1 ++ []
def dkwX1_isOpen_0 : List UInt8 := [3, 61, 28, 16, 8, 162, 0, 21, 42, 180, 0, 32, 28, 46, 27, 160, 0, 5, 4, 172, 132, 2, 1]
abbrev dktX1_isOpen_0 : List UInt8 := dkwX1_isOpen_0 ++ dktX1_isOpen_1
theorem dksX1_isOpen_0 : cX1_isOpen.data.toList.drop 0 = dktX1_isOpen_0 := by decide +kernel
theorem dksX1_isOpen_1 : cX1_isOpen.data.toList.drop 23 = dktX1_isOpen_1 := dk_seg dksX1_isOpen_0 23 rfl rfl
theorem dX1_isOpen_0 : decode cX1_isOpen 0 = .ok (.iconst 0, 1) := dk_3 (dk_at dksX1_isOpen_0 0 rfl rfl)
theorem dX1_isOpen_1 : decode cX1_isOpen 1 = .ok (.istore_n 2, 1) := dk_61 (dk_at dksX1_isOpen_0 1 rfl rfl)
theorem dX1_isOpen_2 : decode cX1_isOpen 2 = .ok (.iload_n 2, 1) := dk_28 (dk_at dksX1_isOpen_0 2 rfl rfl)
theorem dX1_isOpen_3 : decode cX1_isOpen 3 = .ok (.bipush 8, 2) := dk_16 8 (dk_at dksX1_isOpen_0 3 rfl rfl)
theorem dX1_isOpen_5 : decode cX1_isOpen 5 = .ok (.if_icmp .ge 21, 3) := dk_162 0 21 (dk_at dksX1_isOpen_0 5 rfl rfl)
theorem dX1_isOpen_8 : decode cX1_isOpen 8 = .ok (.aload_n 0, 1) := dk_42 (dk_at dksX1_isOpen_0 8 rfl rfl)
theorem dX1_isOpen_9 : decode cX1_isOpen 9 = .ok (.getfield 32, 3) := dk_180 0 32 (dk_at dksX1_isOpen_0 9 rfl rfl)
theorem dX1_isOpen_12 : decode cX1_isOpen 12 = .ok (.iload_n 2, 1) := dk_28 (dk_at dksX1_isOpen_0 12 rfl rfl)
theorem dX1_isOpen_13 : decode cX1_isOpen 13 = .ok (.iaload, 1) := dk_46 (dk_at dksX1_isOpen_0 13 rfl rfl)
theorem dX1_isOpen_14 : decode cX1_isOpen 14 = .ok (.iload_n 1, 1) := dk_27 (dk_at dksX1_isOpen_0 14 rfl rfl)
theorem dX1_isOpen_15 : decode cX1_isOpen 15 = .ok (.if_icmp .ne 5, 3) := dk_160 0 5 (dk_at dksX1_isOpen_0 15 rfl rfl)
theorem dX1_isOpen_18 : decode cX1_isOpen 18 = .ok (.iconst 1, 1) := dk_4 (dk_at dksX1_isOpen_0 18 rfl rfl)
theorem dX1_isOpen_19 : decode cX1_isOpen 19 = .ok (.ireturn, 1) := dk_172 (dk_at dksX1_isOpen_0 19 rfl rfl)
theorem dX1_isOpen_20 : decode cX1_isOpen 20 = .ok (.iinc 2 1, 3) := dk_132 2 1 (dk_at dksX1_isOpen_0 20 rfl rfl)
theorem dX1_isOpen_23 : decode cX1_isOpen 23 = .ok (.goto (-21), 3) := dk_167 255 235 (dk_at dksX1_isOpen_1 0 rfl rfl)
theorem dX1_isOpen_26 : decode cX1_isOpen 26 = .ok (.iconst 0, 1) := dk_3 (dk_at dksX1_isOpen_1 3 rfl rfl)
theorem dX1_isOpen_27 : decode cX1_isOpen 27 = .ok (.ireturn, 1) := dk_172 (dk_at dksX1_isOpen_1 4 rfl rfl)
abbrev cX1_roomOf : ByteArray := prog_1_method_18_code
def yX1_roomOf : MethodName := ⟨RX1, "roomOf", "(I)I"⟩
def dkwX1_roomOf_4 : List UInt8 := [167, 255, 182, 28, 172]
abbrev dktX1_roomOf_4 : List UInt8 := dkwX1_roomOf_4 ++ []
def dkwX1_roomOf_3 : List UInt8 := [180, 0, 136, 180, 0, 146, 17, 0, 192, 96, 96, 61, 42, 180, 0, 111, 180, 0, 136, 182, 0, 153, 62]
abbrev dktX1_roomOf_3 : List UInt8 := dkwX1_roomOf_3 ++ dktX1_roomOf_4
def dkwX1_roomOf_2 : List UInt8 := [180, 0, 136, 180, 0, 149, 27, 5, 184, 0, 157, 148, 154, 0, 7, 3, 167, 0, 17, 42, 180, 0, 111]
abbrev dktX1_roomOf_2 : List UInt8 := dkwX1_roomOf_2 ++ dktX1_roomOf_3
def dkwX1_roomOf_1 : List UInt8 := [180, 0, 111, 180, 0, 136, 180, 0, 149, 27, 6, 184, 0, 157, 148, 157, 0, 57, 28, 42, 180, 0, 111]
abbrev dktX1_roomOf_1 : List UInt8 := dkwX1_roomOf_1 ++ dktX1_roomOf_2
def dkwX1_roomOf_0 : List UInt8 := [3, 61, 42, 180, 0, 111, 180, 0, 136, 27, 3, 184, 0, 157, 9, 182, 0, 140, 62, 29, 153, 0, 76, 42]
abbrev dktX1_roomOf_0 : List UInt8 := dkwX1_roomOf_0 ++ dktX1_roomOf_1
theorem dksX1_roomOf_0 : cX1_roomOf.data.toList.drop 0 = dktX1_roomOf_0 := by decide +kernel
theorem dksX1_roomOf_1 : cX1_roomOf.data.toList.drop 24 = dktX1_roomOf_1 := dk_seg dksX1_roomOf_0 24 rfl rfl
theorem dksX1_roomOf_2 : cX1_roomOf.data.toList.drop 47 = dktX1_roomOf_2 := dk_seg dksX1_roomOf_1 23 rfl rfl
theorem dksX1_roomOf_3 : cX1_roomOf.data.toList.drop 70 = dktX1_roomOf_3 := dk_seg dksX1_roomOf_2 23 rfl rfl
theorem dksX1_roomOf_4 : cX1_roomOf.data.toList.drop 93 = dktX1_roomOf_4 := dk_seg dksX1_roomOf_3 23 rfl rfl
theorem dX1_roomOf_0 : decode cX1_roomOf 0 = .ok (.iconst 0, 1) := dk_3 (dk_at dksX1_roomOf_0 0 rfl rfl)
theorem dX1_roomOf_1 : decode cX1_roomOf 1 = .ok (.istore_n 2, 1) := dk_61 (dk_at dksX1_roomOf_0 1 rfl rfl)
theorem dX1_roomOf_2 : decode cX1_roomOf 2 = .ok (.aload_n 0, 1) := dk_42 (dk_at dksX1_roomOf_0 2 rfl rfl)
theorem dX1_roomOf_3 : decode cX1_roomOf 3 = .ok (.getfield 111, 3) := dk_180 0 111 (dk_at dksX1_roomOf_0 3 rfl rfl)
theorem dX1_roomOf_6 : decode cX1_roomOf 6 = .ok (.getfield 136, 3) := dk_180 0 136 (dk_at dksX1_roomOf_0 6 rfl rfl)
theorem dX1_roomOf_9 : decode cX1_roomOf 9 = .ok (.iload_n 1, 1) := dk_27 (dk_at dksX1_roomOf_0 9 rfl rfl)
theorem dX1_roomOf_10 : decode cX1_roomOf 10 = .ok (.iconst 0, 1) := dk_3 (dk_at dksX1_roomOf_0 10 rfl rfl)
theorem dX1_roomOf_11 : decode cX1_roomOf 11 = .ok (.invokestatic 157, 3) := dk_184 0 157 (dk_at dksX1_roomOf_0 11 rfl rfl)
theorem dX1_roomOf_14 : decode cX1_roomOf 14 = .ok (.lconst 0, 1) := dk_9 (dk_at dksX1_roomOf_0 14 rfl rfl)
theorem dX1_roomOf_15 : decode cX1_roomOf 15 = .ok (.invokevirtual 140, 3) := dk_182 0 140 (dk_at dksX1_roomOf_0 15 rfl rfl)
theorem dX1_roomOf_18 : decode cX1_roomOf 18 = .ok (.istore_n 3, 1) := dk_62 (dk_at dksX1_roomOf_0 18 rfl rfl)
theorem dX1_roomOf_19 : decode cX1_roomOf 19 = .ok (.iload_n 3, 1) := dk_29 (dk_at dksX1_roomOf_0 19 rfl rfl)
theorem dX1_roomOf_20 : decode cX1_roomOf 20 = .ok (.ifCond .eq 76, 3) := dk_153 0 76 (dk_at dksX1_roomOf_0 20 rfl rfl)
theorem dX1_roomOf_23 : decode cX1_roomOf 23 = .ok (.aload_n 0, 1) := dk_42 (dk_at dksX1_roomOf_0 23 rfl rfl)
theorem dX1_roomOf_24 : decode cX1_roomOf 24 = .ok (.getfield 111, 3) := dk_180 0 111 (dk_at dksX1_roomOf_1 0 rfl rfl)
theorem dX1_roomOf_27 : decode cX1_roomOf 27 = .ok (.getfield 136, 3) := dk_180 0 136 (dk_at dksX1_roomOf_1 3 rfl rfl)
theorem dX1_roomOf_30 : decode cX1_roomOf 30 = .ok (.getfield 149, 3) := dk_180 0 149 (dk_at dksX1_roomOf_1 6 rfl rfl)
theorem dX1_roomOf_33 : decode cX1_roomOf 33 = .ok (.iload_n 1, 1) := dk_27 (dk_at dksX1_roomOf_1 9 rfl rfl)
theorem dX1_roomOf_34 : decode cX1_roomOf 34 = .ok (.iconst 3, 1) := dk_6 (dk_at dksX1_roomOf_1 10 rfl rfl)
theorem dX1_roomOf_35 : decode cX1_roomOf 35 = .ok (.invokestatic 157, 3) := dk_184 0 157 (dk_at dksX1_roomOf_1 11 rfl rfl)
theorem dX1_roomOf_38 : decode cX1_roomOf 38 = .ok (.lcmp, 1) := dk_148 (dk_at dksX1_roomOf_1 14 rfl rfl)
theorem dX1_roomOf_39 : decode cX1_roomOf 39 = .ok (.ifCond .gt 57, 3) := dk_157 0 57 (dk_at dksX1_roomOf_1 15 rfl rfl)
theorem dX1_roomOf_42 : decode cX1_roomOf 42 = .ok (.iload_n 2, 1) := dk_28 (dk_at dksX1_roomOf_1 18 rfl rfl)
theorem dX1_roomOf_43 : decode cX1_roomOf 43 = .ok (.aload_n 0, 1) := dk_42 (dk_at dksX1_roomOf_1 19 rfl rfl)
theorem dX1_roomOf_44 : decode cX1_roomOf 44 = .ok (.getfield 111, 3) := dk_180 0 111 (dk_at dksX1_roomOf_1 20 rfl rfl)
theorem dX1_roomOf_47 : decode cX1_roomOf 47 = .ok (.getfield 136, 3) := dk_180 0 136 (dk_at dksX1_roomOf_2 0 rfl rfl)
theorem dX1_roomOf_50 : decode cX1_roomOf 50 = .ok (.getfield 149, 3) := dk_180 0 149 (dk_at dksX1_roomOf_2 3 rfl rfl)
theorem dX1_roomOf_53 : decode cX1_roomOf 53 = .ok (.iload_n 1, 1) := dk_27 (dk_at dksX1_roomOf_2 6 rfl rfl)
theorem dX1_roomOf_54 : decode cX1_roomOf 54 = .ok (.iconst 2, 1) := dk_5 (dk_at dksX1_roomOf_2 7 rfl rfl)
theorem dX1_roomOf_55 : decode cX1_roomOf 55 = .ok (.invokestatic 157, 3) := dk_184 0 157 (dk_at dksX1_roomOf_2 8 rfl rfl)
theorem dX1_roomOf_58 : decode cX1_roomOf 58 = .ok (.lcmp, 1) := dk_148 (dk_at dksX1_roomOf_2 11 rfl rfl)
theorem dX1_roomOf_59 : decode cX1_roomOf 59 = .ok (.ifCond .ne 7, 3) := dk_154 0 7 (dk_at dksX1_roomOf_2 12 rfl rfl)
theorem dX1_roomOf_62 : decode cX1_roomOf 62 = .ok (.iconst 0, 1) := dk_3 (dk_at dksX1_roomOf_2 15 rfl rfl)
theorem dX1_roomOf_63 : decode cX1_roomOf 63 = .ok (.goto 17, 3) := dk_167 0 17 (dk_at dksX1_roomOf_2 16 rfl rfl)
theorem dX1_roomOf_66 : decode cX1_roomOf 66 = .ok (.aload_n 0, 1) := dk_42 (dk_at dksX1_roomOf_2 19 rfl rfl)
theorem dX1_roomOf_67 : decode cX1_roomOf 67 = .ok (.getfield 111, 3) := dk_180 0 111 (dk_at dksX1_roomOf_2 20 rfl rfl)
theorem dX1_roomOf_70 : decode cX1_roomOf 70 = .ok (.getfield 136, 3) := dk_180 0 136 (dk_at dksX1_roomOf_3 0 rfl rfl)
theorem dX1_roomOf_73 : decode cX1_roomOf 73 = .ok (.getfield 146, 3) := dk_180 0 146 (dk_at dksX1_roomOf_3 3 rfl rfl)
theorem dX1_roomOf_76 : decode cX1_roomOf 76 = .ok (.sipush 192, 3) := dk_17 0 192 (dk_at dksX1_roomOf_3 6 rfl rfl)
theorem dX1_roomOf_79 : decode cX1_roomOf 79 = .ok (.iadd, 1) := dk_96 (dk_at dksX1_roomOf_3 9 rfl rfl)
theorem dX1_roomOf_80 : decode cX1_roomOf 80 = .ok (.iadd, 1) := dk_96 (dk_at dksX1_roomOf_3 10 rfl rfl)
theorem dX1_roomOf_81 : decode cX1_roomOf 81 = .ok (.istore_n 2, 1) := dk_61 (dk_at dksX1_roomOf_3 11 rfl rfl)
theorem dX1_roomOf_82 : decode cX1_roomOf 82 = .ok (.aload_n 0, 1) := dk_42 (dk_at dksX1_roomOf_3 12 rfl rfl)
theorem dX1_roomOf_83 : decode cX1_roomOf 83 = .ok (.getfield 111, 3) := dk_180 0 111 (dk_at dksX1_roomOf_3 13 rfl rfl)
theorem dX1_roomOf_86 : decode cX1_roomOf 86 = .ok (.getfield 136, 3) := dk_180 0 136 (dk_at dksX1_roomOf_3 16 rfl rfl)
theorem dX1_roomOf_89 : decode cX1_roomOf 89 = .ok (.invokevirtual 153, 3) := dk_182 0 153 (dk_at dksX1_roomOf_3 19 rfl rfl)
theorem dX1_roomOf_92 : decode cX1_roomOf 92 = .ok (.istore_n 3, 1) := dk_62 (dk_at dksX1_roomOf_3 22 rfl rfl)
theorem dX1_roomOf_93 : decode cX1_roomOf 93 = .ok (.goto (-74), 3) := dk_167 255 182 (dk_at dksX1_roomOf_4 0 rfl rfl)
theorem dX1_roomOf_96 : decode cX1_roomOf 96 = .ok (.iload_n 2, 1) := dk_28 (dk_at dksX1_roomOf_4 3 rfl rfl)
theorem dX1_roomOf_97 : decode cX1_roomOf 97 = .ok (.ireturn, 1) := dk_172 (dk_at dksX1_roomOf_4 4 rfl rfl)
abbrev cX1_rmdir : ByteArray := prog_1_method_32_code
def yX1_rmdir : MethodName := ⟨RX1, "rmdir", "(IJ)I"⟩
def dkwX1_rmdir_2 : List UInt8 := [158, 0, 6, 16, 248, 172, 42, 27, 32, 182, 1, 62, 42, 180, 0, 58, 180, 0, 177, 172]
abbrev dktX1_rmdir_2 : List UInt8 := dkwX1_rmdir_2 ++ []
def dkwX1_rmdir_1 : List UInt8 := [21, 4, 172, 42, 180, 0, 58, 180, 0, 182, 4, 159, 0, 6, 16, 250, 172, 42, 180, 0, 58, 180, 0, 189]
abbrev dktX1_rmdir_1 : List UInt8 := dkwX1_rmdir_1 ++ dktX1_rmdir_2
def dkwX1_rmdir_0 : List UInt8 := [42, 180, 0, 28, 154, 0, 6, 16, 254, 172, 42, 27, 32, 182, 1, 60, 54, 4, 21, 4, 156, 0, 6]
abbrev dktX1_rmdir_0 : List UInt8 := dkwX1_rmdir_0 ++ dktX1_rmdir_1
theorem dksX1_rmdir_0 : cX1_rmdir.data.toList.drop 0 = dktX1_rmdir_0 := by decide +kernel
theorem dksX1_rmdir_1 : cX1_rmdir.data.toList.drop 23 = dktX1_rmdir_1 := dk_seg dksX1_rmdir_0 23 rfl rfl
theorem dksX1_rmdir_2 : cX1_rmdir.data.toList.drop 47 = dktX1_rmdir_2 := dk_seg dksX1_rmdir_1 24 rfl rfl
theorem dX1_rmdir_0 : decode cX1_rmdir 0 = .ok (.aload_n 0, 1) := dk_42 (dk_at dksX1_rmdir_0 0 rfl rfl)
theorem dX1_rmdir_1 : decode cX1_rmdir 1 = .ok (.getfield 28, 3) := dk_180 0 28 (dk_at dksX1_rmdir_0 1 rfl rfl)
theorem dX1_rmdir_4 : decode cX1_rmdir 4 = .ok (.ifCond .ne 6, 3) := dk_154 0 6 (dk_at dksX1_rmdir_0 4 rfl rfl)
theorem dX1_rmdir_7 : decode cX1_rmdir 7 = .ok (.bipush (-2), 2) := dk_16 254 (dk_at dksX1_rmdir_0 7 rfl rfl)
theorem dX1_rmdir_9 : decode cX1_rmdir 9 = .ok (.ireturn, 1) := dk_172 (dk_at dksX1_rmdir_0 9 rfl rfl)
theorem dX1_rmdir_10 : decode cX1_rmdir 10 = .ok (.aload_n 0, 1) := dk_42 (dk_at dksX1_rmdir_0 10 rfl rfl)
theorem dX1_rmdir_11 : decode cX1_rmdir 11 = .ok (.iload_n 1, 1) := dk_27 (dk_at dksX1_rmdir_0 11 rfl rfl)
theorem dX1_rmdir_12 : decode cX1_rmdir 12 = .ok (.lload_n 2, 1) := dk_32 (dk_at dksX1_rmdir_0 12 rfl rfl)
theorem dX1_rmdir_13 : decode cX1_rmdir 13 = .ok (.invokevirtual 316, 3) := dk_182 1 60 (dk_at dksX1_rmdir_0 13 rfl rfl)
theorem dX1_rmdir_16 : decode cX1_rmdir 16 = .ok (.istore 4, 2) := dk_54 4 (dk_at dksX1_rmdir_0 16 rfl rfl)
theorem dX1_rmdir_18 : decode cX1_rmdir 18 = .ok (.iload 4, 2) := dk_21 4 (dk_at dksX1_rmdir_0 18 rfl rfl)
theorem dX1_rmdir_20 : decode cX1_rmdir 20 = .ok (.ifCond .ge 6, 3) := dk_156 0 6 (dk_at dksX1_rmdir_0 20 rfl rfl)
theorem dX1_rmdir_23 : decode cX1_rmdir 23 = .ok (.iload 4, 2) := dk_21 4 (dk_at dksX1_rmdir_1 0 rfl rfl)
theorem dX1_rmdir_25 : decode cX1_rmdir 25 = .ok (.ireturn, 1) := dk_172 (dk_at dksX1_rmdir_1 2 rfl rfl)
theorem dX1_rmdir_26 : decode cX1_rmdir 26 = .ok (.aload_n 0, 1) := dk_42 (dk_at dksX1_rmdir_1 3 rfl rfl)
theorem dX1_rmdir_27 : decode cX1_rmdir 27 = .ok (.getfield 58, 3) := dk_180 0 58 (dk_at dksX1_rmdir_1 4 rfl rfl)
theorem dX1_rmdir_30 : decode cX1_rmdir 30 = .ok (.getfield 182, 3) := dk_180 0 182 (dk_at dksX1_rmdir_1 7 rfl rfl)
theorem dX1_rmdir_33 : decode cX1_rmdir 33 = .ok (.iconst 1, 1) := dk_4 (dk_at dksX1_rmdir_1 10 rfl rfl)
theorem dX1_rmdir_34 : decode cX1_rmdir 34 = .ok (.if_icmp .eq 6, 3) := dk_159 0 6 (dk_at dksX1_rmdir_1 11 rfl rfl)
theorem dX1_rmdir_37 : decode cX1_rmdir 37 = .ok (.bipush (-6), 2) := dk_16 250 (dk_at dksX1_rmdir_1 14 rfl rfl)
theorem dX1_rmdir_39 : decode cX1_rmdir 39 = .ok (.ireturn, 1) := dk_172 (dk_at dksX1_rmdir_1 16 rfl rfl)
theorem dX1_rmdir_40 : decode cX1_rmdir 40 = .ok (.aload_n 0, 1) := dk_42 (dk_at dksX1_rmdir_1 17 rfl rfl)
theorem dX1_rmdir_41 : decode cX1_rmdir 41 = .ok (.getfield 58, 3) := dk_180 0 58 (dk_at dksX1_rmdir_1 18 rfl rfl)
theorem dX1_rmdir_44 : decode cX1_rmdir 44 = .ok (.getfield 189, 3) := dk_180 0 189 (dk_at dksX1_rmdir_1 21 rfl rfl)
theorem dX1_rmdir_47 : decode cX1_rmdir 47 = .ok (.ifCond .le 6, 3) := dk_158 0 6 (dk_at dksX1_rmdir_2 0 rfl rfl)
theorem dX1_rmdir_50 : decode cX1_rmdir 50 = .ok (.bipush (-8), 2) := dk_16 248 (dk_at dksX1_rmdir_2 3 rfl rfl)
theorem dX1_rmdir_52 : decode cX1_rmdir 52 = .ok (.ireturn, 1) := dk_172 (dk_at dksX1_rmdir_2 5 rfl rfl)
theorem dX1_rmdir_53 : decode cX1_rmdir 53 = .ok (.aload_n 0, 1) := dk_42 (dk_at dksX1_rmdir_2 6 rfl rfl)
theorem dX1_rmdir_54 : decode cX1_rmdir 54 = .ok (.iload_n 1, 1) := dk_27 (dk_at dksX1_rmdir_2 7 rfl rfl)
theorem dX1_rmdir_55 : decode cX1_rmdir 55 = .ok (.lload_n 2, 1) := dk_32 (dk_at dksX1_rmdir_2 8 rfl rfl)
theorem dX1_rmdir_56 : decode cX1_rmdir 56 = .ok (.invokevirtual 318, 3) := dk_182 1 62 (dk_at dksX1_rmdir_2 9 rfl rfl)
theorem dX1_rmdir_59 : decode cX1_rmdir 59 = .ok (.aload_n 0, 1) := dk_42 (dk_at dksX1_rmdir_2 12 rfl rfl)
theorem dX1_rmdir_60 : decode cX1_rmdir 60 = .ok (.getfield 58, 3) := dk_180 0 58 (dk_at dksX1_rmdir_2 13 rfl rfl)
theorem dX1_rmdir_63 : decode cX1_rmdir 63 = .ok (.getfield 177, 3) := dk_180 0 177 (dk_at dksX1_rmdir_2 16 rfl rfl)
theorem dX1_rmdir_66 : decode cX1_rmdir 66 = .ok (.ireturn, 1) := dk_172 (dk_at dksX1_rmdir_2 19 rfl rfl)
abbrev cX1_rename : ByteArray := prog_1_method_34_code
def yX1_rename : MethodName := ⟨RX1, "rename", "(IJIJ)I"⟩
def dkwX1_rename_15 : List UInt8 := [180, 0, 54, 4, 182, 1, 10, 42, 182, 1, 54, 21, 9, 158, 0, 7, 4, 167, 0, 4, 3, 172]
abbrev dktX1_rename_15 : List UInt8 := dkwX1_rename_15 ++ []
def dkwX1_rename_14 : List UInt8 := [180, 0, 189, 4, 96, 181, 0, 189, 21, 13, 154, 0, 12, 42, 42, 180, 0, 61, 3, 182, 1, 10, 42, 42]
abbrev dktX1_rename_14 : List UInt8 := dkwX1_rename_14 ++ dktX1_rename_15
def dkwX1_rename_13 : List UInt8 := [153, 0, 19, 42, 180, 0, 54, 89, 180, 0, 189, 4, 96, 181, 0, 189, 167, 0, 16, 42, 180, 0, 61, 89]
abbrev dktX1_rename_13 : List UInt8 := dkwX1_rename_13 ++ dktX1_rename_14
def dkwX1_rename_12 : List UInt8 := [17, 0, 240, 100, 181, 0, 130, 42, 42, 180, 0, 58, 3, 182, 1, 56, 87, 167, 0, 37, 21, 13]
abbrev dktX1_rename_12 : List UInt8 := dkwX1_rename_12 ++ dktX1_rename_13
def dkwX1_rename_11 : List UInt8 := [42, 180, 0, 54, 89, 180, 0, 189, 4, 100, 181, 0, 189, 21, 9, 158, 0, 28, 42, 89, 180, 0, 130]
abbrev dktX1_rename_11 : List UInt8 := dkwX1_rename_11 ++ dktX1_rename_12
def dkwX1_rename_10 : List UInt8 := [21, 4, 22, 5, 21, 12, 21, 10, 182, 1, 40, 27, 21, 4, 160, 0, 7, 4, 167, 0, 4, 3, 54, 13]
abbrev dktX1_rename_10 : List UInt8 := dkwX1_rename_10 ++ dktX1_rename_11
def dkwX1_rename_9 : List UInt8 := [180, 0, 189, 158, 0, 6, 16, 248, 172, 42, 182, 1, 38, 42, 27, 32, 3, 21, 8, 182, 1, 40, 42]
abbrev dktX1_rename_9 : List UInt8 := dkwX1_rename_9 ++ dktX1_rename_10
def dkwX1_rename_8 : List UInt8 := [180, 0, 58, 180, 0, 182, 4, 160, 0, 6, 16, 249, 172, 21, 11, 153, 0, 16, 42, 180, 0, 58]
abbrev dktX1_rename_8 : List UInt8 := dkwX1_rename_8 ++ dktX1_rename_9
def dkwX1_rename_7 : List UInt8 := [153, 0, 17, 42, 180, 0, 58, 180, 0, 182, 4, 159, 0, 6, 16, 250, 172, 21, 11, 154, 0, 17, 42]
abbrev dktX1_rename_7 : List UInt8 := dkwX1_rename_7 ++ dktX1_rename_8
def dkwX1_rename_6 : List UInt8 := [180, 0, 177, 54, 12, 21, 9, 158, 0, 70, 42, 21, 9, 42, 180, 0, 58, 182, 0, 214, 87, 21, 11]
abbrev dktX1_rename_6 : List UInt8 := dkwX1_rename_6 ++ dktX1_rename_7
def dkwX1_rename_5 : List UInt8 := [21, 4, 42, 180, 0, 58, 180, 0, 177, 182, 1, 66, 153, 0, 6, 16, 247, 172, 42, 180, 0, 58]
abbrev dktX1_rename_5 : List UInt8 := dkwX1_rename_5 ++ dktX1_rename_6
def dkwX1_rename_4 : List UInt8 := [180, 0, 58, 180, 0, 182, 4, 160, 0, 7, 4, 167, 0, 4, 3, 54, 11, 21, 11, 153, 0, 22, 42]
abbrev dktX1_rename_4 : List UInt8 := dkwX1_rename_4 ++ dktX1_rename_5
def dkwX1_rename_3 : List UInt8 := [54, 9, 42, 180, 0, 207, 54, 10, 21, 9, 42, 180, 0, 58, 180, 0, 177, 160, 0, 5, 3, 172, 42]
abbrev dktX1_rename_3 : List UInt8 := dkwX1_rename_3 ++ dktX1_rename_4
def dkwX1_rename_2 : List UInt8 := [180, 0, 61, 182, 1, 25, 54, 7, 21, 7, 156, 0, 6, 21, 7, 172, 42, 21, 4, 22, 5, 182, 1, 29]
abbrev dktX1_rename_2 : List UInt8 := dkwX1_rename_2 ++ dktX1_rename_3
def dkwX1_rename_1 : List UInt8 := [182, 1, 60, 54, 7, 21, 7, 156, 0, 6, 21, 7, 172, 42, 180, 0, 207, 54, 8, 42, 21, 4, 42]
abbrev dktX1_rename_1 : List UInt8 := dkwX1_rename_1 ++ dktX1_rename_2
def dkwX1_rename_0 : List UInt8 := [42, 180, 0, 28, 154, 0, 6, 16, 254, 172, 22, 5, 184, 1, 18, 154, 0, 6, 16, 253, 172, 42, 27, 32]
abbrev dktX1_rename_0 : List UInt8 := dkwX1_rename_0 ++ dktX1_rename_1
theorem dksX1_rename_0 : cX1_rename.data.toList.drop 0 = dktX1_rename_0 := by decide +kernel
theorem dksX1_rename_1 : cX1_rename.data.toList.drop 24 = dktX1_rename_1 := dk_seg dksX1_rename_0 24 rfl rfl
theorem dksX1_rename_2 : cX1_rename.data.toList.drop 47 = dktX1_rename_2 := dk_seg dksX1_rename_1 23 rfl rfl
theorem dksX1_rename_3 : cX1_rename.data.toList.drop 71 = dktX1_rename_3 := dk_seg dksX1_rename_2 24 rfl rfl
theorem dksX1_rename_4 : cX1_rename.data.toList.drop 94 = dktX1_rename_4 := dk_seg dksX1_rename_3 23 rfl rfl
theorem dksX1_rename_5 : cX1_rename.data.toList.drop 117 = dktX1_rename_5 := dk_seg dksX1_rename_4 23 rfl rfl
theorem dksX1_rename_6 : cX1_rename.data.toList.drop 139 = dktX1_rename_6 := dk_seg dksX1_rename_5 22 rfl rfl
theorem dksX1_rename_7 : cX1_rename.data.toList.drop 162 = dktX1_rename_7 := dk_seg dksX1_rename_6 23 rfl rfl
theorem dksX1_rename_8 : cX1_rename.data.toList.drop 185 = dktX1_rename_8 := dk_seg dksX1_rename_7 23 rfl rfl
theorem dksX1_rename_9 : cX1_rename.data.toList.drop 207 = dktX1_rename_9 := dk_seg dksX1_rename_8 22 rfl rfl
theorem dksX1_rename_10 : cX1_rename.data.toList.drop 230 = dktX1_rename_10 := dk_seg dksX1_rename_9 23 rfl rfl
theorem dksX1_rename_11 : cX1_rename.data.toList.drop 254 = dktX1_rename_11 := dk_seg dksX1_rename_10 24 rfl rfl
theorem dksX1_rename_12 : cX1_rename.data.toList.drop 277 = dktX1_rename_12 := dk_seg dksX1_rename_11 23 rfl rfl
theorem dksX1_rename_13 : cX1_rename.data.toList.drop 299 = dktX1_rename_13 := dk_seg dksX1_rename_12 22 rfl rfl
theorem dksX1_rename_14 : cX1_rename.data.toList.drop 323 = dktX1_rename_14 := dk_seg dksX1_rename_13 24 rfl rfl
theorem dksX1_rename_15 : cX1_rename.data.toList.drop 347 = dktX1_rename_15 := dk_seg dksX1_rename_14 24 rfl rfl
theorem dX1_rename_0 : decode cX1_rename 0 = .ok (.aload_n 0, 1) := dk_42 (dk_at dksX1_rename_0 0 rfl rfl)
theorem dX1_rename_1 : decode cX1_rename 1 = .ok (.getfield 28, 3) := dk_180 0 28 (dk_at dksX1_rename_0 1 rfl rfl)
theorem dX1_rename_4 : decode cX1_rename 4 = .ok (.ifCond .ne 6, 3) := dk_154 0 6 (dk_at dksX1_rename_0 4 rfl rfl)
theorem dX1_rename_7 : decode cX1_rename 7 = .ok (.bipush (-2), 2) := dk_16 254 (dk_at dksX1_rename_0 7 rfl rfl)
theorem dX1_rename_9 : decode cX1_rename 9 = .ok (.ireturn, 1) := dk_172 (dk_at dksX1_rename_0 9 rfl rfl)
theorem dX1_rename_10 : decode cX1_rename 10 = .ok (.lload 5, 2) := dk_22 5 (dk_at dksX1_rename_0 10 rfl rfl)
theorem dX1_rename_12 : decode cX1_rename 12 = .ok (.invokestatic 274, 3) := dk_184 1 18 (dk_at dksX1_rename_0 12 rfl rfl)
theorem dX1_rename_15 : decode cX1_rename 15 = .ok (.ifCond .ne 6, 3) := dk_154 0 6 (dk_at dksX1_rename_0 15 rfl rfl)
theorem dX1_rename_18 : decode cX1_rename 18 = .ok (.bipush (-3), 2) := dk_16 253 (dk_at dksX1_rename_0 18 rfl rfl)
theorem dX1_rename_20 : decode cX1_rename 20 = .ok (.ireturn, 1) := dk_172 (dk_at dksX1_rename_0 20 rfl rfl)
theorem dX1_rename_21 : decode cX1_rename 21 = .ok (.aload_n 0, 1) := dk_42 (dk_at dksX1_rename_0 21 rfl rfl)
theorem dX1_rename_22 : decode cX1_rename 22 = .ok (.iload_n 1, 1) := dk_27 (dk_at dksX1_rename_0 22 rfl rfl)
theorem dX1_rename_23 : decode cX1_rename 23 = .ok (.lload_n 2, 1) := dk_32 (dk_at dksX1_rename_0 23 rfl rfl)
theorem dX1_rename_24 : decode cX1_rename 24 = .ok (.invokevirtual 316, 3) := dk_182 1 60 (dk_at dksX1_rename_1 0 rfl rfl)
theorem dX1_rename_27 : decode cX1_rename 27 = .ok (.istore 7, 2) := dk_54 7 (dk_at dksX1_rename_1 3 rfl rfl)
theorem dX1_rename_29 : decode cX1_rename 29 = .ok (.iload 7, 2) := dk_21 7 (dk_at dksX1_rename_1 5 rfl rfl)
theorem dX1_rename_31 : decode cX1_rename 31 = .ok (.ifCond .ge 6, 3) := dk_156 0 6 (dk_at dksX1_rename_1 7 rfl rfl)
theorem dX1_rename_34 : decode cX1_rename 34 = .ok (.iload 7, 2) := dk_21 7 (dk_at dksX1_rename_1 10 rfl rfl)
theorem dX1_rename_36 : decode cX1_rename 36 = .ok (.ireturn, 1) := dk_172 (dk_at dksX1_rename_1 12 rfl rfl)
theorem dX1_rename_37 : decode cX1_rename 37 = .ok (.aload_n 0, 1) := dk_42 (dk_at dksX1_rename_1 13 rfl rfl)
theorem dX1_rename_38 : decode cX1_rename 38 = .ok (.getfield 207, 3) := dk_180 0 207 (dk_at dksX1_rename_1 14 rfl rfl)
theorem dX1_rename_41 : decode cX1_rename 41 = .ok (.istore 8, 2) := dk_54 8 (dk_at dksX1_rename_1 17 rfl rfl)
theorem dX1_rename_43 : decode cX1_rename 43 = .ok (.aload_n 0, 1) := dk_42 (dk_at dksX1_rename_1 19 rfl rfl)
theorem dX1_rename_44 : decode cX1_rename 44 = .ok (.iload 4, 2) := dk_21 4 (dk_at dksX1_rename_1 20 rfl rfl)
theorem dX1_rename_46 : decode cX1_rename 46 = .ok (.aload_n 0, 1) := dk_42 (dk_at dksX1_rename_1 22 rfl rfl)
theorem dX1_rename_47 : decode cX1_rename 47 = .ok (.getfield 61, 3) := dk_180 0 61 (dk_at dksX1_rename_2 0 rfl rfl)
theorem dX1_rename_50 : decode cX1_rename 50 = .ok (.invokevirtual 281, 3) := dk_182 1 25 (dk_at dksX1_rename_2 3 rfl rfl)
theorem dX1_rename_53 : decode cX1_rename 53 = .ok (.istore 7, 2) := dk_54 7 (dk_at dksX1_rename_2 6 rfl rfl)
theorem dX1_rename_55 : decode cX1_rename 55 = .ok (.iload 7, 2) := dk_21 7 (dk_at dksX1_rename_2 8 rfl rfl)
theorem dX1_rename_57 : decode cX1_rename 57 = .ok (.ifCond .ge 6, 3) := dk_156 0 6 (dk_at dksX1_rename_2 10 rfl rfl)
theorem dX1_rename_60 : decode cX1_rename 60 = .ok (.iload 7, 2) := dk_21 7 (dk_at dksX1_rename_2 13 rfl rfl)
theorem dX1_rename_62 : decode cX1_rename 62 = .ok (.ireturn, 1) := dk_172 (dk_at dksX1_rename_2 15 rfl rfl)
theorem dX1_rename_63 : decode cX1_rename 63 = .ok (.aload_n 0, 1) := dk_42 (dk_at dksX1_rename_2 16 rfl rfl)
theorem dX1_rename_64 : decode cX1_rename 64 = .ok (.iload 4, 2) := dk_21 4 (dk_at dksX1_rename_2 17 rfl rfl)
theorem dX1_rename_66 : decode cX1_rename 66 = .ok (.lload 5, 2) := dk_22 5 (dk_at dksX1_rename_2 19 rfl rfl)
theorem dX1_rename_68 : decode cX1_rename 68 = .ok (.invokevirtual 285, 3) := dk_182 1 29 (dk_at dksX1_rename_2 21 rfl rfl)
theorem dX1_rename_71 : decode cX1_rename 71 = .ok (.istore 9, 2) := dk_54 9 (dk_at dksX1_rename_3 0 rfl rfl)
theorem dX1_rename_73 : decode cX1_rename 73 = .ok (.aload_n 0, 1) := dk_42 (dk_at dksX1_rename_3 2 rfl rfl)
theorem dX1_rename_74 : decode cX1_rename 74 = .ok (.getfield 207, 3) := dk_180 0 207 (dk_at dksX1_rename_3 3 rfl rfl)
theorem dX1_rename_77 : decode cX1_rename 77 = .ok (.istore 10, 2) := dk_54 10 (dk_at dksX1_rename_3 6 rfl rfl)
theorem dX1_rename_79 : decode cX1_rename 79 = .ok (.iload 9, 2) := dk_21 9 (dk_at dksX1_rename_3 8 rfl rfl)
theorem dX1_rename_81 : decode cX1_rename 81 = .ok (.aload_n 0, 1) := dk_42 (dk_at dksX1_rename_3 10 rfl rfl)
theorem dX1_rename_82 : decode cX1_rename 82 = .ok (.getfield 58, 3) := dk_180 0 58 (dk_at dksX1_rename_3 11 rfl rfl)
theorem dX1_rename_85 : decode cX1_rename 85 = .ok (.getfield 177, 3) := dk_180 0 177 (dk_at dksX1_rename_3 14 rfl rfl)
theorem dX1_rename_88 : decode cX1_rename 88 = .ok (.if_icmp .ne 5, 3) := dk_160 0 5 (dk_at dksX1_rename_3 17 rfl rfl)
theorem dX1_rename_91 : decode cX1_rename 91 = .ok (.iconst 0, 1) := dk_3 (dk_at dksX1_rename_3 20 rfl rfl)
theorem dX1_rename_92 : decode cX1_rename 92 = .ok (.ireturn, 1) := dk_172 (dk_at dksX1_rename_3 21 rfl rfl)
theorem dX1_rename_93 : decode cX1_rename 93 = .ok (.aload_n 0, 1) := dk_42 (dk_at dksX1_rename_3 22 rfl rfl)
theorem dX1_rename_94 : decode cX1_rename 94 = .ok (.getfield 58, 3) := dk_180 0 58 (dk_at dksX1_rename_4 0 rfl rfl)
theorem dX1_rename_97 : decode cX1_rename 97 = .ok (.getfield 182, 3) := dk_180 0 182 (dk_at dksX1_rename_4 3 rfl rfl)
theorem dX1_rename_100 : decode cX1_rename 100 = .ok (.iconst 1, 1) := dk_4 (dk_at dksX1_rename_4 6 rfl rfl)
theorem dX1_rename_101 : decode cX1_rename 101 = .ok (.if_icmp .ne 7, 3) := dk_160 0 7 (dk_at dksX1_rename_4 7 rfl rfl)
theorem dX1_rename_104 : decode cX1_rename 104 = .ok (.iconst 1, 1) := dk_4 (dk_at dksX1_rename_4 10 rfl rfl)
theorem dX1_rename_105 : decode cX1_rename 105 = .ok (.goto 4, 3) := dk_167 0 4 (dk_at dksX1_rename_4 11 rfl rfl)
theorem dX1_rename_108 : decode cX1_rename 108 = .ok (.iconst 0, 1) := dk_3 (dk_at dksX1_rename_4 14 rfl rfl)
theorem dX1_rename_109 : decode cX1_rename 109 = .ok (.istore 11, 2) := dk_54 11 (dk_at dksX1_rename_4 15 rfl rfl)
theorem dX1_rename_111 : decode cX1_rename 111 = .ok (.iload 11, 2) := dk_21 11 (dk_at dksX1_rename_4 17 rfl rfl)
theorem dX1_rename_113 : decode cX1_rename 113 = .ok (.ifCond .eq 22, 3) := dk_153 0 22 (dk_at dksX1_rename_4 19 rfl rfl)
theorem dX1_rename_116 : decode cX1_rename 116 = .ok (.aload_n 0, 1) := dk_42 (dk_at dksX1_rename_4 22 rfl rfl)
theorem dX1_rename_117 : decode cX1_rename 117 = .ok (.iload 4, 2) := dk_21 4 (dk_at dksX1_rename_5 0 rfl rfl)
theorem dX1_rename_119 : decode cX1_rename 119 = .ok (.aload_n 0, 1) := dk_42 (dk_at dksX1_rename_5 2 rfl rfl)
theorem dX1_rename_120 : decode cX1_rename 120 = .ok (.getfield 58, 3) := dk_180 0 58 (dk_at dksX1_rename_5 3 rfl rfl)
theorem dX1_rename_123 : decode cX1_rename 123 = .ok (.getfield 177, 3) := dk_180 0 177 (dk_at dksX1_rename_5 6 rfl rfl)
theorem dX1_rename_126 : decode cX1_rename 126 = .ok (.invokevirtual 322, 3) := dk_182 1 66 (dk_at dksX1_rename_5 9 rfl rfl)
theorem dX1_rename_129 : decode cX1_rename 129 = .ok (.ifCond .eq 6, 3) := dk_153 0 6 (dk_at dksX1_rename_5 12 rfl rfl)
theorem dX1_rename_132 : decode cX1_rename 132 = .ok (.bipush (-9), 2) := dk_16 247 (dk_at dksX1_rename_5 15 rfl rfl)
theorem dX1_rename_134 : decode cX1_rename 134 = .ok (.ireturn, 1) := dk_172 (dk_at dksX1_rename_5 17 rfl rfl)
theorem dX1_rename_135 : decode cX1_rename 135 = .ok (.aload_n 0, 1) := dk_42 (dk_at dksX1_rename_5 18 rfl rfl)
theorem dX1_rename_136 : decode cX1_rename 136 = .ok (.getfield 58, 3) := dk_180 0 58 (dk_at dksX1_rename_5 19 rfl rfl)
theorem dX1_rename_139 : decode cX1_rename 139 = .ok (.getfield 177, 3) := dk_180 0 177 (dk_at dksX1_rename_6 0 rfl rfl)
theorem dX1_rename_142 : decode cX1_rename 142 = .ok (.istore 12, 2) := dk_54 12 (dk_at dksX1_rename_6 3 rfl rfl)
theorem dX1_rename_144 : decode cX1_rename 144 = .ok (.iload 9, 2) := dk_21 9 (dk_at dksX1_rename_6 5 rfl rfl)
theorem dX1_rename_146 : decode cX1_rename 146 = .ok (.ifCond .le 70, 3) := dk_158 0 70 (dk_at dksX1_rename_6 7 rfl rfl)
theorem dX1_rename_149 : decode cX1_rename 149 = .ok (.aload_n 0, 1) := dk_42 (dk_at dksX1_rename_6 10 rfl rfl)
theorem dX1_rename_150 : decode cX1_rename 150 = .ok (.iload 9, 2) := dk_21 9 (dk_at dksX1_rename_6 11 rfl rfl)
theorem dX1_rename_152 : decode cX1_rename 152 = .ok (.aload_n 0, 1) := dk_42 (dk_at dksX1_rename_6 13 rfl rfl)
theorem dX1_rename_153 : decode cX1_rename 153 = .ok (.getfield 58, 3) := dk_180 0 58 (dk_at dksX1_rename_6 14 rfl rfl)
theorem dX1_rename_156 : decode cX1_rename 156 = .ok (.invokevirtual 214, 3) := dk_182 0 214 (dk_at dksX1_rename_6 17 rfl rfl)
theorem dX1_rename_159 : decode cX1_rename 159 = .ok (.pop, 1) := dk_87 (dk_at dksX1_rename_6 20 rfl rfl)
theorem dX1_rename_160 : decode cX1_rename 160 = .ok (.iload 11, 2) := dk_21 11 (dk_at dksX1_rename_6 21 rfl rfl)
theorem dX1_rename_162 : decode cX1_rename 162 = .ok (.ifCond .eq 17, 3) := dk_153 0 17 (dk_at dksX1_rename_7 0 rfl rfl)
theorem dX1_rename_165 : decode cX1_rename 165 = .ok (.aload_n 0, 1) := dk_42 (dk_at dksX1_rename_7 3 rfl rfl)
theorem dX1_rename_166 : decode cX1_rename 166 = .ok (.getfield 58, 3) := dk_180 0 58 (dk_at dksX1_rename_7 4 rfl rfl)
theorem dX1_rename_169 : decode cX1_rename 169 = .ok (.getfield 182, 3) := dk_180 0 182 (dk_at dksX1_rename_7 7 rfl rfl)
theorem dX1_rename_172 : decode cX1_rename 172 = .ok (.iconst 1, 1) := dk_4 (dk_at dksX1_rename_7 10 rfl rfl)
theorem dX1_rename_173 : decode cX1_rename 173 = .ok (.if_icmp .eq 6, 3) := dk_159 0 6 (dk_at dksX1_rename_7 11 rfl rfl)
theorem dX1_rename_176 : decode cX1_rename 176 = .ok (.bipush (-6), 2) := dk_16 250 (dk_at dksX1_rename_7 14 rfl rfl)
theorem dX1_rename_178 : decode cX1_rename 178 = .ok (.ireturn, 1) := dk_172 (dk_at dksX1_rename_7 16 rfl rfl)
theorem dX1_rename_179 : decode cX1_rename 179 = .ok (.iload 11, 2) := dk_21 11 (dk_at dksX1_rename_7 17 rfl rfl)
theorem dX1_rename_181 : decode cX1_rename 181 = .ok (.ifCond .ne 17, 3) := dk_154 0 17 (dk_at dksX1_rename_7 19 rfl rfl)
theorem dX1_rename_184 : decode cX1_rename 184 = .ok (.aload_n 0, 1) := dk_42 (dk_at dksX1_rename_7 22 rfl rfl)
theorem dX1_rename_185 : decode cX1_rename 185 = .ok (.getfield 58, 3) := dk_180 0 58 (dk_at dksX1_rename_8 0 rfl rfl)
theorem dX1_rename_188 : decode cX1_rename 188 = .ok (.getfield 182, 3) := dk_180 0 182 (dk_at dksX1_rename_8 3 rfl rfl)
theorem dX1_rename_191 : decode cX1_rename 191 = .ok (.iconst 1, 1) := dk_4 (dk_at dksX1_rename_8 6 rfl rfl)
theorem dX1_rename_192 : decode cX1_rename 192 = .ok (.if_icmp .ne 6, 3) := dk_160 0 6 (dk_at dksX1_rename_8 7 rfl rfl)
theorem dX1_rename_195 : decode cX1_rename 195 = .ok (.bipush (-7), 2) := dk_16 249 (dk_at dksX1_rename_8 10 rfl rfl)
theorem dX1_rename_197 : decode cX1_rename 197 = .ok (.ireturn, 1) := dk_172 (dk_at dksX1_rename_8 12 rfl rfl)
theorem dX1_rename_198 : decode cX1_rename 198 = .ok (.iload 11, 2) := dk_21 11 (dk_at dksX1_rename_8 13 rfl rfl)
theorem dX1_rename_200 : decode cX1_rename 200 = .ok (.ifCond .eq 16, 3) := dk_153 0 16 (dk_at dksX1_rename_8 15 rfl rfl)
theorem dX1_rename_203 : decode cX1_rename 203 = .ok (.aload_n 0, 1) := dk_42 (dk_at dksX1_rename_8 18 rfl rfl)
theorem dX1_rename_204 : decode cX1_rename 204 = .ok (.getfield 58, 3) := dk_180 0 58 (dk_at dksX1_rename_8 19 rfl rfl)
theorem dX1_rename_207 : decode cX1_rename 207 = .ok (.getfield 189, 3) := dk_180 0 189 (dk_at dksX1_rename_9 0 rfl rfl)
theorem dX1_rename_210 : decode cX1_rename 210 = .ok (.ifCond .le 6, 3) := dk_158 0 6 (dk_at dksX1_rename_9 3 rfl rfl)
theorem dX1_rename_213 : decode cX1_rename 213 = .ok (.bipush (-8), 2) := dk_16 248 (dk_at dksX1_rename_9 6 rfl rfl)
theorem dX1_rename_215 : decode cX1_rename 215 = .ok (.ireturn, 1) := dk_172 (dk_at dksX1_rename_9 8 rfl rfl)
theorem dX1_rename_216 : decode cX1_rename 216 = .ok (.aload_n 0, 1) := dk_42 (dk_at dksX1_rename_9 9 rfl rfl)
theorem dX1_rename_217 : decode cX1_rename 217 = .ok (.invokevirtual 294, 3) := dk_182 1 38 (dk_at dksX1_rename_9 10 rfl rfl)
theorem dX1_rename_220 : decode cX1_rename 220 = .ok (.aload_n 0, 1) := dk_42 (dk_at dksX1_rename_9 13 rfl rfl)
theorem dX1_rename_221 : decode cX1_rename 221 = .ok (.iload_n 1, 1) := dk_27 (dk_at dksX1_rename_9 14 rfl rfl)
theorem dX1_rename_222 : decode cX1_rename 222 = .ok (.lload_n 2, 1) := dk_32 (dk_at dksX1_rename_9 15 rfl rfl)
theorem dX1_rename_223 : decode cX1_rename 223 = .ok (.iconst 0, 1) := dk_3 (dk_at dksX1_rename_9 16 rfl rfl)
theorem dX1_rename_224 : decode cX1_rename 224 = .ok (.iload 8, 2) := dk_21 8 (dk_at dksX1_rename_9 17 rfl rfl)
theorem dX1_rename_226 : decode cX1_rename 226 = .ok (.invokevirtual 296, 3) := dk_182 1 40 (dk_at dksX1_rename_9 19 rfl rfl)
theorem dX1_rename_229 : decode cX1_rename 229 = .ok (.aload_n 0, 1) := dk_42 (dk_at dksX1_rename_9 22 rfl rfl)
theorem dX1_rename_230 : decode cX1_rename 230 = .ok (.iload 4, 2) := dk_21 4 (dk_at dksX1_rename_10 0 rfl rfl)
theorem dX1_rename_232 : decode cX1_rename 232 = .ok (.lload 5, 2) := dk_22 5 (dk_at dksX1_rename_10 2 rfl rfl)
theorem dX1_rename_234 : decode cX1_rename 234 = .ok (.iload 12, 2) := dk_21 12 (dk_at dksX1_rename_10 4 rfl rfl)
theorem dX1_rename_236 : decode cX1_rename 236 = .ok (.iload 10, 2) := dk_21 10 (dk_at dksX1_rename_10 6 rfl rfl)
theorem dX1_rename_238 : decode cX1_rename 238 = .ok (.invokevirtual 296, 3) := dk_182 1 40 (dk_at dksX1_rename_10 8 rfl rfl)
theorem dX1_rename_241 : decode cX1_rename 241 = .ok (.iload_n 1, 1) := dk_27 (dk_at dksX1_rename_10 11 rfl rfl)
theorem dX1_rename_242 : decode cX1_rename 242 = .ok (.iload 4, 2) := dk_21 4 (dk_at dksX1_rename_10 12 rfl rfl)
theorem dX1_rename_244 : decode cX1_rename 244 = .ok (.if_icmp .ne 7, 3) := dk_160 0 7 (dk_at dksX1_rename_10 14 rfl rfl)
theorem dX1_rename_247 : decode cX1_rename 247 = .ok (.iconst 1, 1) := dk_4 (dk_at dksX1_rename_10 17 rfl rfl)
theorem dX1_rename_248 : decode cX1_rename 248 = .ok (.goto 4, 3) := dk_167 0 4 (dk_at dksX1_rename_10 18 rfl rfl)
theorem dX1_rename_251 : decode cX1_rename 251 = .ok (.iconst 0, 1) := dk_3 (dk_at dksX1_rename_10 21 rfl rfl)
theorem dX1_rename_252 : decode cX1_rename 252 = .ok (.istore 13, 2) := dk_54 13 (dk_at dksX1_rename_10 22 rfl rfl)
theorem dX1_rename_254 : decode cX1_rename 254 = .ok (.aload_n 0, 1) := dk_42 (dk_at dksX1_rename_11 0 rfl rfl)
theorem dX1_rename_255 : decode cX1_rename 255 = .ok (.getfield 54, 3) := dk_180 0 54 (dk_at dksX1_rename_11 1 rfl rfl)
theorem dX1_rename_258 : decode cX1_rename 258 = .ok (.dup, 1) := dk_89 (dk_at dksX1_rename_11 4 rfl rfl)
theorem dX1_rename_259 : decode cX1_rename 259 = .ok (.getfield 189, 3) := dk_180 0 189 (dk_at dksX1_rename_11 5 rfl rfl)
theorem dX1_rename_262 : decode cX1_rename 262 = .ok (.iconst 1, 1) := dk_4 (dk_at dksX1_rename_11 8 rfl rfl)
theorem dX1_rename_263 : decode cX1_rename 263 = .ok (.isub, 1) := dk_100 (dk_at dksX1_rename_11 9 rfl rfl)
theorem dX1_rename_264 : decode cX1_rename 264 = .ok (.putfield 189, 3) := dk_181 0 189 (dk_at dksX1_rename_11 10 rfl rfl)
theorem dX1_rename_267 : decode cX1_rename 267 = .ok (.iload 9, 2) := dk_21 9 (dk_at dksX1_rename_11 13 rfl rfl)
theorem dX1_rename_269 : decode cX1_rename 269 = .ok (.ifCond .le 28, 3) := dk_158 0 28 (dk_at dksX1_rename_11 15 rfl rfl)
theorem dX1_rename_272 : decode cX1_rename 272 = .ok (.aload_n 0, 1) := dk_42 (dk_at dksX1_rename_11 18 rfl rfl)
theorem dX1_rename_273 : decode cX1_rename 273 = .ok (.dup, 1) := dk_89 (dk_at dksX1_rename_11 19 rfl rfl)
theorem dX1_rename_274 : decode cX1_rename 274 = .ok (.getfield 130, 3) := dk_180 0 130 (dk_at dksX1_rename_11 20 rfl rfl)
theorem dX1_rename_277 : decode cX1_rename 277 = .ok (.sipush 240, 3) := dk_17 0 240 (dk_at dksX1_rename_12 0 rfl rfl)
theorem dX1_rename_280 : decode cX1_rename 280 = .ok (.isub, 1) := dk_100 (dk_at dksX1_rename_12 3 rfl rfl)
theorem dX1_rename_281 : decode cX1_rename 281 = .ok (.putfield 130, 3) := dk_181 0 130 (dk_at dksX1_rename_12 4 rfl rfl)
theorem dX1_rename_284 : decode cX1_rename 284 = .ok (.aload_n 0, 1) := dk_42 (dk_at dksX1_rename_12 7 rfl rfl)
theorem dX1_rename_285 : decode cX1_rename 285 = .ok (.aload_n 0, 1) := dk_42 (dk_at dksX1_rename_12 8 rfl rfl)
theorem dX1_rename_286 : decode cX1_rename 286 = .ok (.getfield 58, 3) := dk_180 0 58 (dk_at dksX1_rename_12 9 rfl rfl)
theorem dX1_rename_289 : decode cX1_rename 289 = .ok (.iconst 0, 1) := dk_3 (dk_at dksX1_rename_12 12 rfl rfl)
theorem dX1_rename_290 : decode cX1_rename 290 = .ok (.invokevirtual 312, 3) := dk_182 1 56 (dk_at dksX1_rename_12 13 rfl rfl)
theorem dX1_rename_293 : decode cX1_rename 293 = .ok (.pop, 1) := dk_87 (dk_at dksX1_rename_12 16 rfl rfl)
theorem dX1_rename_294 : decode cX1_rename 294 = .ok (.goto 37, 3) := dk_167 0 37 (dk_at dksX1_rename_12 17 rfl rfl)
theorem dX1_rename_297 : decode cX1_rename 297 = .ok (.iload 13, 2) := dk_21 13 (dk_at dksX1_rename_12 20 rfl rfl)
theorem dX1_rename_299 : decode cX1_rename 299 = .ok (.ifCond .eq 19, 3) := dk_153 0 19 (dk_at dksX1_rename_13 0 rfl rfl)
theorem dX1_rename_302 : decode cX1_rename 302 = .ok (.aload_n 0, 1) := dk_42 (dk_at dksX1_rename_13 3 rfl rfl)
theorem dX1_rename_303 : decode cX1_rename 303 = .ok (.getfield 54, 3) := dk_180 0 54 (dk_at dksX1_rename_13 4 rfl rfl)
theorem dX1_rename_306 : decode cX1_rename 306 = .ok (.dup, 1) := dk_89 (dk_at dksX1_rename_13 7 rfl rfl)
theorem dX1_rename_307 : decode cX1_rename 307 = .ok (.getfield 189, 3) := dk_180 0 189 (dk_at dksX1_rename_13 8 rfl rfl)
theorem dX1_rename_310 : decode cX1_rename 310 = .ok (.iconst 1, 1) := dk_4 (dk_at dksX1_rename_13 11 rfl rfl)
theorem dX1_rename_311 : decode cX1_rename 311 = .ok (.iadd, 1) := dk_96 (dk_at dksX1_rename_13 12 rfl rfl)
theorem dX1_rename_312 : decode cX1_rename 312 = .ok (.putfield 189, 3) := dk_181 0 189 (dk_at dksX1_rename_13 13 rfl rfl)
theorem dX1_rename_315 : decode cX1_rename 315 = .ok (.goto 16, 3) := dk_167 0 16 (dk_at dksX1_rename_13 16 rfl rfl)
theorem dX1_rename_318 : decode cX1_rename 318 = .ok (.aload_n 0, 1) := dk_42 (dk_at dksX1_rename_13 19 rfl rfl)
theorem dX1_rename_319 : decode cX1_rename 319 = .ok (.getfield 61, 3) := dk_180 0 61 (dk_at dksX1_rename_13 20 rfl rfl)
theorem dX1_rename_322 : decode cX1_rename 322 = .ok (.dup, 1) := dk_89 (dk_at dksX1_rename_13 23 rfl rfl)
theorem dX1_rename_323 : decode cX1_rename 323 = .ok (.getfield 189, 3) := dk_180 0 189 (dk_at dksX1_rename_14 0 rfl rfl)
theorem dX1_rename_326 : decode cX1_rename 326 = .ok (.iconst 1, 1) := dk_4 (dk_at dksX1_rename_14 3 rfl rfl)
theorem dX1_rename_327 : decode cX1_rename 327 = .ok (.iadd, 1) := dk_96 (dk_at dksX1_rename_14 4 rfl rfl)
theorem dX1_rename_328 : decode cX1_rename 328 = .ok (.putfield 189, 3) := dk_181 0 189 (dk_at dksX1_rename_14 5 rfl rfl)
theorem dX1_rename_331 : decode cX1_rename 331 = .ok (.iload 13, 2) := dk_21 13 (dk_at dksX1_rename_14 8 rfl rfl)
theorem dX1_rename_333 : decode cX1_rename 333 = .ok (.ifCond .ne 12, 3) := dk_154 0 12 (dk_at dksX1_rename_14 10 rfl rfl)
theorem dX1_rename_336 : decode cX1_rename 336 = .ok (.aload_n 0, 1) := dk_42 (dk_at dksX1_rename_14 13 rfl rfl)
theorem dX1_rename_337 : decode cX1_rename 337 = .ok (.aload_n 0, 1) := dk_42 (dk_at dksX1_rename_14 14 rfl rfl)
theorem dX1_rename_338 : decode cX1_rename 338 = .ok (.getfield 61, 3) := dk_180 0 61 (dk_at dksX1_rename_14 15 rfl rfl)
theorem dX1_rename_341 : decode cX1_rename 341 = .ok (.iconst 0, 1) := dk_3 (dk_at dksX1_rename_14 18 rfl rfl)
theorem dX1_rename_342 : decode cX1_rename 342 = .ok (.invokevirtual 266, 3) := dk_182 1 10 (dk_at dksX1_rename_14 19 rfl rfl)
theorem dX1_rename_345 : decode cX1_rename 345 = .ok (.aload_n 0, 1) := dk_42 (dk_at dksX1_rename_14 22 rfl rfl)
theorem dX1_rename_346 : decode cX1_rename 346 = .ok (.aload_n 0, 1) := dk_42 (dk_at dksX1_rename_14 23 rfl rfl)
theorem dX1_rename_347 : decode cX1_rename 347 = .ok (.getfield 54, 3) := dk_180 0 54 (dk_at dksX1_rename_15 0 rfl rfl)
theorem dX1_rename_350 : decode cX1_rename 350 = .ok (.iconst 1, 1) := dk_4 (dk_at dksX1_rename_15 3 rfl rfl)
theorem dX1_rename_351 : decode cX1_rename 351 = .ok (.invokevirtual 266, 3) := dk_182 1 10 (dk_at dksX1_rename_15 4 rfl rfl)
theorem dX1_rename_354 : decode cX1_rename 354 = .ok (.aload_n 0, 1) := dk_42 (dk_at dksX1_rename_15 7 rfl rfl)
theorem dX1_rename_355 : decode cX1_rename 355 = .ok (.invokevirtual 310, 3) := dk_182 1 54 (dk_at dksX1_rename_15 8 rfl rfl)
theorem dX1_rename_358 : decode cX1_rename 358 = .ok (.iload 9, 2) := dk_21 9 (dk_at dksX1_rename_15 11 rfl rfl)
theorem dX1_rename_360 : decode cX1_rename 360 = .ok (.ifCond .le 7, 3) := dk_158 0 7 (dk_at dksX1_rename_15 13 rfl rfl)
theorem dX1_rename_363 : decode cX1_rename 363 = .ok (.iconst 1, 1) := dk_4 (dk_at dksX1_rename_15 16 rfl rfl)
theorem dX1_rename_364 : decode cX1_rename 364 = .ok (.goto 4, 3) := dk_167 0 4 (dk_at dksX1_rename_15 17 rfl rfl)
theorem dX1_rename_367 : decode cX1_rename 367 = .ok (.iconst 0, 1) := dk_3 (dk_at dksX1_rename_15 20 rfl rfl)
theorem dX1_rename_368 : decode cX1_rename 368 = .ok (.ireturn, 1) := dk_172 (dk_at dksX1_rename_15 21 rfl rfl)
abbrev cX1_isWithin : ByteArray := prog_1_method_33_code
def yX1_isWithin : MethodName := ⟨RX1, "isWithin", "(II)Z"⟩
def dkwX1_isWithin_9 : List UInt8 := [167, 255, 57, 3, 172]
abbrev dktX1_isWithin_9 : List UInt8 := dkwX1_isWithin_9 ++ []
def dkwX1_isWithin_8 : List UInt8 := [29, 132, 3, 1, 21, 9, 79, 22, 7, 9, 148, 154, 0, 6, 167, 0, 6, 167, 255, 98, 132, 4, 1]
abbrev dktX1_isWithin_8 : List UInt8 := dkwX1_isWithin_8 ++ dktX1_isWithin_9
def dkwX1_isWithin_7 : List UInt8 := [180, 0, 64, 182, 0, 214, 153, 0, 25, 42, 180, 0, 64, 180, 0, 182, 4, 160, 0, 14, 42, 180, 0, 67]
abbrev dktX1_isWithin_7 : List UInt8 := dkwX1_isWithin_7 ++ dktX1_isWithin_8
def dkwX1_isWithin_6 : List UInt8 := [180, 0, 170, 7, 182, 0, 178, 54, 9, 29, 42, 180, 0, 67, 190, 162, 0, 38, 42, 21, 9, 42]
abbrev dktX1_isWithin_6 : List UInt8 := dkwX1_isWithin_6 ++ dktX1_isWithin_7
def dkwX1_isWithin_5 : List UInt8 := [180, 0, 111, 180, 0, 136, 180, 0, 146, 42, 180, 0, 111, 180, 0, 170, 182, 0, 173, 42, 180, 0, 111]
abbrev dktX1_isWithin_5 : List UInt8 := dkwX1_isWithin_5 ++ dktX1_isWithin_6
def dkwX1_isWithin_4 : List UInt8 := [180, 0, 111, 42, 180, 0, 111, 180, 0, 136, 180, 0, 164, 42, 180, 0, 111, 180, 0, 136, 180, 0, 167, 42]
abbrev dktX1_isWithin_4 : List UInt8 := dkwX1_isWithin_4 ++ dktX1_isWithin_5
def dkwX1_isWithin_3 : List UInt8 := [180, 0, 149, 22, 5, 148, 154, 0, 131, 42, 180, 0, 111, 180, 0, 136, 180, 0, 204, 10, 97, 55, 7, 42]
abbrev dktX1_isWithin_3 : List UInt8 := dkwX1_isWithin_3 ++ dktX1_isWithin_4
def dkwX1_isWithin_2 : List UInt8 := [180, 0, 111, 180, 0, 136, 22, 5, 22, 7, 182, 0, 140, 153, 0, 147, 42, 180, 0, 111, 180, 0, 136]
abbrev dktX1_isWithin_2 : List UInt8 := dkwX1_isWithin_2 ++ dktX1_isWithin_3
def dkwX1_isWithin_1 : List UInt8 := [46, 27, 160, 0, 5, 4, 172, 42, 180, 0, 67, 21, 4, 46, 5, 184, 0, 157, 55, 5, 9, 55, 7, 42]
abbrev dktX1_isWithin_1 : List UInt8 := dkwX1_isWithin_1 ++ dktX1_isWithin_2
def dkwX1_isWithin_0 : List UInt8 := [4, 62, 42, 180, 0, 67, 3, 28, 79, 3, 54, 4, 21, 4, 29, 162, 0, 199, 42, 180, 0, 67, 21, 4]
abbrev dktX1_isWithin_0 : List UInt8 := dkwX1_isWithin_0 ++ dktX1_isWithin_1
theorem dksX1_isWithin_0 : cX1_isWithin.data.toList.drop 0 = dktX1_isWithin_0 := by decide +kernel
theorem dksX1_isWithin_1 : cX1_isWithin.data.toList.drop 24 = dktX1_isWithin_1 := dk_seg dksX1_isWithin_0 24 rfl rfl
theorem dksX1_isWithin_2 : cX1_isWithin.data.toList.drop 48 = dktX1_isWithin_2 := dk_seg dksX1_isWithin_1 24 rfl rfl
theorem dksX1_isWithin_3 : cX1_isWithin.data.toList.drop 71 = dktX1_isWithin_3 := dk_seg dksX1_isWithin_2 23 rfl rfl
theorem dksX1_isWithin_4 : cX1_isWithin.data.toList.drop 95 = dktX1_isWithin_4 := dk_seg dksX1_isWithin_3 24 rfl rfl
theorem dksX1_isWithin_5 : cX1_isWithin.data.toList.drop 119 = dktX1_isWithin_5 := dk_seg dksX1_isWithin_4 24 rfl rfl
theorem dksX1_isWithin_6 : cX1_isWithin.data.toList.drop 142 = dktX1_isWithin_6 := dk_seg dksX1_isWithin_5 23 rfl rfl
theorem dksX1_isWithin_7 : cX1_isWithin.data.toList.drop 164 = dktX1_isWithin_7 := dk_seg dksX1_isWithin_6 22 rfl rfl
theorem dksX1_isWithin_8 : cX1_isWithin.data.toList.drop 188 = dktX1_isWithin_8 := dk_seg dksX1_isWithin_7 24 rfl rfl
theorem dksX1_isWithin_9 : cX1_isWithin.data.toList.drop 211 = dktX1_isWithin_9 := dk_seg dksX1_isWithin_8 23 rfl rfl
theorem dX1_isWithin_0 : decode cX1_isWithin 0 = .ok (.iconst 1, 1) := dk_4 (dk_at dksX1_isWithin_0 0 rfl rfl)
theorem dX1_isWithin_1 : decode cX1_isWithin 1 = .ok (.istore_n 3, 1) := dk_62 (dk_at dksX1_isWithin_0 1 rfl rfl)
theorem dX1_isWithin_2 : decode cX1_isWithin 2 = .ok (.aload_n 0, 1) := dk_42 (dk_at dksX1_isWithin_0 2 rfl rfl)
theorem dX1_isWithin_3 : decode cX1_isWithin 3 = .ok (.getfield 67, 3) := dk_180 0 67 (dk_at dksX1_isWithin_0 3 rfl rfl)
theorem dX1_isWithin_6 : decode cX1_isWithin 6 = .ok (.iconst 0, 1) := dk_3 (dk_at dksX1_isWithin_0 6 rfl rfl)
theorem dX1_isWithin_7 : decode cX1_isWithin 7 = .ok (.iload_n 2, 1) := dk_28 (dk_at dksX1_isWithin_0 7 rfl rfl)
theorem dX1_isWithin_8 : decode cX1_isWithin 8 = .ok (.iastore, 1) := dk_79 (dk_at dksX1_isWithin_0 8 rfl rfl)
theorem dX1_isWithin_9 : decode cX1_isWithin 9 = .ok (.iconst 0, 1) := dk_3 (dk_at dksX1_isWithin_0 9 rfl rfl)
theorem dX1_isWithin_10 : decode cX1_isWithin 10 = .ok (.istore 4, 2) := dk_54 4 (dk_at dksX1_isWithin_0 10 rfl rfl)
theorem dX1_isWithin_12 : decode cX1_isWithin 12 = .ok (.iload 4, 2) := dk_21 4 (dk_at dksX1_isWithin_0 12 rfl rfl)
theorem dX1_isWithin_14 : decode cX1_isWithin 14 = .ok (.iload_n 3, 1) := dk_29 (dk_at dksX1_isWithin_0 14 rfl rfl)
theorem dX1_isWithin_15 : decode cX1_isWithin 15 = .ok (.if_icmp .ge 199, 3) := dk_162 0 199 (dk_at dksX1_isWithin_0 15 rfl rfl)
theorem dX1_isWithin_18 : decode cX1_isWithin 18 = .ok (.aload_n 0, 1) := dk_42 (dk_at dksX1_isWithin_0 18 rfl rfl)
theorem dX1_isWithin_19 : decode cX1_isWithin 19 = .ok (.getfield 67, 3) := dk_180 0 67 (dk_at dksX1_isWithin_0 19 rfl rfl)
theorem dX1_isWithin_22 : decode cX1_isWithin 22 = .ok (.iload 4, 2) := dk_21 4 (dk_at dksX1_isWithin_0 22 rfl rfl)
theorem dX1_isWithin_24 : decode cX1_isWithin 24 = .ok (.iaload, 1) := dk_46 (dk_at dksX1_isWithin_1 0 rfl rfl)
theorem dX1_isWithin_25 : decode cX1_isWithin 25 = .ok (.iload_n 1, 1) := dk_27 (dk_at dksX1_isWithin_1 1 rfl rfl)
theorem dX1_isWithin_26 : decode cX1_isWithin 26 = .ok (.if_icmp .ne 5, 3) := dk_160 0 5 (dk_at dksX1_isWithin_1 2 rfl rfl)
theorem dX1_isWithin_29 : decode cX1_isWithin 29 = .ok (.iconst 1, 1) := dk_4 (dk_at dksX1_isWithin_1 5 rfl rfl)
theorem dX1_isWithin_30 : decode cX1_isWithin 30 = .ok (.ireturn, 1) := dk_172 (dk_at dksX1_isWithin_1 6 rfl rfl)
theorem dX1_isWithin_31 : decode cX1_isWithin 31 = .ok (.aload_n 0, 1) := dk_42 (dk_at dksX1_isWithin_1 7 rfl rfl)
theorem dX1_isWithin_32 : decode cX1_isWithin 32 = .ok (.getfield 67, 3) := dk_180 0 67 (dk_at dksX1_isWithin_1 8 rfl rfl)
theorem dX1_isWithin_35 : decode cX1_isWithin 35 = .ok (.iload 4, 2) := dk_21 4 (dk_at dksX1_isWithin_1 11 rfl rfl)
theorem dX1_isWithin_37 : decode cX1_isWithin 37 = .ok (.iaload, 1) := dk_46 (dk_at dksX1_isWithin_1 13 rfl rfl)
theorem dX1_isWithin_38 : decode cX1_isWithin 38 = .ok (.iconst 2, 1) := dk_5 (dk_at dksX1_isWithin_1 14 rfl rfl)
theorem dX1_isWithin_39 : decode cX1_isWithin 39 = .ok (.invokestatic 157, 3) := dk_184 0 157 (dk_at dksX1_isWithin_1 15 rfl rfl)
theorem dX1_isWithin_42 : decode cX1_isWithin 42 = .ok (.lstore 5, 2) := dk_55 5 (dk_at dksX1_isWithin_1 18 rfl rfl)
theorem dX1_isWithin_44 : decode cX1_isWithin 44 = .ok (.lconst 0, 1) := dk_9 (dk_at dksX1_isWithin_1 20 rfl rfl)
theorem dX1_isWithin_45 : decode cX1_isWithin 45 = .ok (.lstore 7, 2) := dk_55 7 (dk_at dksX1_isWithin_1 21 rfl rfl)
theorem dX1_isWithin_47 : decode cX1_isWithin 47 = .ok (.aload_n 0, 1) := dk_42 (dk_at dksX1_isWithin_1 23 rfl rfl)
theorem dX1_isWithin_48 : decode cX1_isWithin 48 = .ok (.getfield 111, 3) := dk_180 0 111 (dk_at dksX1_isWithin_2 0 rfl rfl)
theorem dX1_isWithin_51 : decode cX1_isWithin 51 = .ok (.getfield 136, 3) := dk_180 0 136 (dk_at dksX1_isWithin_2 3 rfl rfl)
theorem dX1_isWithin_54 : decode cX1_isWithin 54 = .ok (.lload 5, 2) := dk_22 5 (dk_at dksX1_isWithin_2 6 rfl rfl)
theorem dX1_isWithin_56 : decode cX1_isWithin 56 = .ok (.lload 7, 2) := dk_22 7 (dk_at dksX1_isWithin_2 8 rfl rfl)
theorem dX1_isWithin_58 : decode cX1_isWithin 58 = .ok (.invokevirtual 140, 3) := dk_182 0 140 (dk_at dksX1_isWithin_2 10 rfl rfl)
theorem dX1_isWithin_61 : decode cX1_isWithin 61 = .ok (.ifCond .eq 147, 3) := dk_153 0 147 (dk_at dksX1_isWithin_2 13 rfl rfl)
theorem dX1_isWithin_64 : decode cX1_isWithin 64 = .ok (.aload_n 0, 1) := dk_42 (dk_at dksX1_isWithin_2 16 rfl rfl)
theorem dX1_isWithin_65 : decode cX1_isWithin 65 = .ok (.getfield 111, 3) := dk_180 0 111 (dk_at dksX1_isWithin_2 17 rfl rfl)
theorem dX1_isWithin_68 : decode cX1_isWithin 68 = .ok (.getfield 136, 3) := dk_180 0 136 (dk_at dksX1_isWithin_2 20 rfl rfl)
theorem dX1_isWithin_71 : decode cX1_isWithin 71 = .ok (.getfield 149, 3) := dk_180 0 149 (dk_at dksX1_isWithin_3 0 rfl rfl)
theorem dX1_isWithin_74 : decode cX1_isWithin 74 = .ok (.lload 5, 2) := dk_22 5 (dk_at dksX1_isWithin_3 3 rfl rfl)
theorem dX1_isWithin_76 : decode cX1_isWithin 76 = .ok (.lcmp, 1) := dk_148 (dk_at dksX1_isWithin_3 5 rfl rfl)
theorem dX1_isWithin_77 : decode cX1_isWithin 77 = .ok (.ifCond .ne 131, 3) := dk_154 0 131 (dk_at dksX1_isWithin_3 6 rfl rfl)
theorem dX1_isWithin_80 : decode cX1_isWithin 80 = .ok (.aload_n 0, 1) := dk_42 (dk_at dksX1_isWithin_3 9 rfl rfl)
theorem dX1_isWithin_81 : decode cX1_isWithin 81 = .ok (.getfield 111, 3) := dk_180 0 111 (dk_at dksX1_isWithin_3 10 rfl rfl)
theorem dX1_isWithin_84 : decode cX1_isWithin 84 = .ok (.getfield 136, 3) := dk_180 0 136 (dk_at dksX1_isWithin_3 13 rfl rfl)
theorem dX1_isWithin_87 : decode cX1_isWithin 87 = .ok (.getfield 204, 3) := dk_180 0 204 (dk_at dksX1_isWithin_3 16 rfl rfl)
theorem dX1_isWithin_90 : decode cX1_isWithin 90 = .ok (.lconst 1, 1) := dk_10 (dk_at dksX1_isWithin_3 19 rfl rfl)
theorem dX1_isWithin_91 : decode cX1_isWithin 91 = .ok (.ladd, 1) := dk_97 (dk_at dksX1_isWithin_3 20 rfl rfl)
theorem dX1_isWithin_92 : decode cX1_isWithin 92 = .ok (.lstore 7, 2) := dk_55 7 (dk_at dksX1_isWithin_3 21 rfl rfl)
theorem dX1_isWithin_94 : decode cX1_isWithin 94 = .ok (.aload_n 0, 1) := dk_42 (dk_at dksX1_isWithin_3 23 rfl rfl)
theorem dX1_isWithin_95 : decode cX1_isWithin 95 = .ok (.getfield 111, 3) := dk_180 0 111 (dk_at dksX1_isWithin_4 0 rfl rfl)
theorem dX1_isWithin_98 : decode cX1_isWithin 98 = .ok (.aload_n 0, 1) := dk_42 (dk_at dksX1_isWithin_4 3 rfl rfl)
theorem dX1_isWithin_99 : decode cX1_isWithin 99 = .ok (.getfield 111, 3) := dk_180 0 111 (dk_at dksX1_isWithin_4 4 rfl rfl)
theorem dX1_isWithin_102 : decode cX1_isWithin 102 = .ok (.getfield 136, 3) := dk_180 0 136 (dk_at dksX1_isWithin_4 7 rfl rfl)
theorem dX1_isWithin_105 : decode cX1_isWithin 105 = .ok (.getfield 164, 3) := dk_180 0 164 (dk_at dksX1_isWithin_4 10 rfl rfl)
theorem dX1_isWithin_108 : decode cX1_isWithin 108 = .ok (.aload_n 0, 1) := dk_42 (dk_at dksX1_isWithin_4 13 rfl rfl)
theorem dX1_isWithin_109 : decode cX1_isWithin 109 = .ok (.getfield 111, 3) := dk_180 0 111 (dk_at dksX1_isWithin_4 14 rfl rfl)
theorem dX1_isWithin_112 : decode cX1_isWithin 112 = .ok (.getfield 136, 3) := dk_180 0 136 (dk_at dksX1_isWithin_4 17 rfl rfl)
theorem dX1_isWithin_115 : decode cX1_isWithin 115 = .ok (.getfield 167, 3) := dk_180 0 167 (dk_at dksX1_isWithin_4 20 rfl rfl)
theorem dX1_isWithin_118 : decode cX1_isWithin 118 = .ok (.aload_n 0, 1) := dk_42 (dk_at dksX1_isWithin_4 23 rfl rfl)
theorem dX1_isWithin_119 : decode cX1_isWithin 119 = .ok (.getfield 111, 3) := dk_180 0 111 (dk_at dksX1_isWithin_5 0 rfl rfl)
theorem dX1_isWithin_122 : decode cX1_isWithin 122 = .ok (.getfield 136, 3) := dk_180 0 136 (dk_at dksX1_isWithin_5 3 rfl rfl)
theorem dX1_isWithin_125 : decode cX1_isWithin 125 = .ok (.getfield 146, 3) := dk_180 0 146 (dk_at dksX1_isWithin_5 6 rfl rfl)
theorem dX1_isWithin_128 : decode cX1_isWithin 128 = .ok (.aload_n 0, 1) := dk_42 (dk_at dksX1_isWithin_5 9 rfl rfl)
theorem dX1_isWithin_129 : decode cX1_isWithin 129 = .ok (.getfield 111, 3) := dk_180 0 111 (dk_at dksX1_isWithin_5 10 rfl rfl)
theorem dX1_isWithin_132 : decode cX1_isWithin 132 = .ok (.getfield 170, 3) := dk_180 0 170 (dk_at dksX1_isWithin_5 13 rfl rfl)
theorem dX1_isWithin_135 : decode cX1_isWithin 135 = .ok (.invokevirtual 173, 3) := dk_182 0 173 (dk_at dksX1_isWithin_5 16 rfl rfl)
theorem dX1_isWithin_138 : decode cX1_isWithin 138 = .ok (.aload_n 0, 1) := dk_42 (dk_at dksX1_isWithin_5 19 rfl rfl)
theorem dX1_isWithin_139 : decode cX1_isWithin 139 = .ok (.getfield 111, 3) := dk_180 0 111 (dk_at dksX1_isWithin_5 20 rfl rfl)
theorem dX1_isWithin_142 : decode cX1_isWithin 142 = .ok (.getfield 170, 3) := dk_180 0 170 (dk_at dksX1_isWithin_6 0 rfl rfl)
theorem dX1_isWithin_145 : decode cX1_isWithin 145 = .ok (.iconst 4, 1) := dk_7 (dk_at dksX1_isWithin_6 3 rfl rfl)
theorem dX1_isWithin_146 : decode cX1_isWithin 146 = .ok (.invokevirtual 178, 3) := dk_182 0 178 (dk_at dksX1_isWithin_6 4 rfl rfl)
theorem dX1_isWithin_149 : decode cX1_isWithin 149 = .ok (.istore 9, 2) := dk_54 9 (dk_at dksX1_isWithin_6 7 rfl rfl)
theorem dX1_isWithin_151 : decode cX1_isWithin 151 = .ok (.iload_n 3, 1) := dk_29 (dk_at dksX1_isWithin_6 9 rfl rfl)
theorem dX1_isWithin_152 : decode cX1_isWithin 152 = .ok (.aload_n 0, 1) := dk_42 (dk_at dksX1_isWithin_6 10 rfl rfl)
theorem dX1_isWithin_153 : decode cX1_isWithin 153 = .ok (.getfield 67, 3) := dk_180 0 67 (dk_at dksX1_isWithin_6 11 rfl rfl)
theorem dX1_isWithin_156 : decode cX1_isWithin 156 = .ok (.arraylength, 1) := dk_190 (dk_at dksX1_isWithin_6 14 rfl rfl)
theorem dX1_isWithin_157 : decode cX1_isWithin 157 = .ok (.if_icmp .ge 38, 3) := dk_162 0 38 (dk_at dksX1_isWithin_6 15 rfl rfl)
theorem dX1_isWithin_160 : decode cX1_isWithin 160 = .ok (.aload_n 0, 1) := dk_42 (dk_at dksX1_isWithin_6 18 rfl rfl)
theorem dX1_isWithin_161 : decode cX1_isWithin 161 = .ok (.iload 9, 2) := dk_21 9 (dk_at dksX1_isWithin_6 19 rfl rfl)
theorem dX1_isWithin_163 : decode cX1_isWithin 163 = .ok (.aload_n 0, 1) := dk_42 (dk_at dksX1_isWithin_6 21 rfl rfl)
theorem dX1_isWithin_164 : decode cX1_isWithin 164 = .ok (.getfield 64, 3) := dk_180 0 64 (dk_at dksX1_isWithin_7 0 rfl rfl)
theorem dX1_isWithin_167 : decode cX1_isWithin 167 = .ok (.invokevirtual 214, 3) := dk_182 0 214 (dk_at dksX1_isWithin_7 3 rfl rfl)
theorem dX1_isWithin_170 : decode cX1_isWithin 170 = .ok (.ifCond .eq 25, 3) := dk_153 0 25 (dk_at dksX1_isWithin_7 6 rfl rfl)
theorem dX1_isWithin_173 : decode cX1_isWithin 173 = .ok (.aload_n 0, 1) := dk_42 (dk_at dksX1_isWithin_7 9 rfl rfl)
theorem dX1_isWithin_174 : decode cX1_isWithin 174 = .ok (.getfield 64, 3) := dk_180 0 64 (dk_at dksX1_isWithin_7 10 rfl rfl)
theorem dX1_isWithin_177 : decode cX1_isWithin 177 = .ok (.getfield 182, 3) := dk_180 0 182 (dk_at dksX1_isWithin_7 13 rfl rfl)
theorem dX1_isWithin_180 : decode cX1_isWithin 180 = .ok (.iconst 1, 1) := dk_4 (dk_at dksX1_isWithin_7 16 rfl rfl)
theorem dX1_isWithin_181 : decode cX1_isWithin 181 = .ok (.if_icmp .ne 14, 3) := dk_160 0 14 (dk_at dksX1_isWithin_7 17 rfl rfl)
theorem dX1_isWithin_184 : decode cX1_isWithin 184 = .ok (.aload_n 0, 1) := dk_42 (dk_at dksX1_isWithin_7 20 rfl rfl)
theorem dX1_isWithin_185 : decode cX1_isWithin 185 = .ok (.getfield 67, 3) := dk_180 0 67 (dk_at dksX1_isWithin_7 21 rfl rfl)
theorem dX1_isWithin_188 : decode cX1_isWithin 188 = .ok (.iload_n 3, 1) := dk_29 (dk_at dksX1_isWithin_8 0 rfl rfl)
theorem dX1_isWithin_189 : decode cX1_isWithin 189 = .ok (.iinc 3 1, 3) := dk_132 3 1 (dk_at dksX1_isWithin_8 1 rfl rfl)
theorem dX1_isWithin_192 : decode cX1_isWithin 192 = .ok (.iload 9, 2) := dk_21 9 (dk_at dksX1_isWithin_8 4 rfl rfl)
theorem dX1_isWithin_194 : decode cX1_isWithin 194 = .ok (.iastore, 1) := dk_79 (dk_at dksX1_isWithin_8 6 rfl rfl)
theorem dX1_isWithin_195 : decode cX1_isWithin 195 = .ok (.lload 7, 2) := dk_22 7 (dk_at dksX1_isWithin_8 7 rfl rfl)
theorem dX1_isWithin_197 : decode cX1_isWithin 197 = .ok (.lconst 0, 1) := dk_9 (dk_at dksX1_isWithin_8 9 rfl rfl)
theorem dX1_isWithin_198 : decode cX1_isWithin 198 = .ok (.lcmp, 1) := dk_148 (dk_at dksX1_isWithin_8 10 rfl rfl)
theorem dX1_isWithin_199 : decode cX1_isWithin 199 = .ok (.ifCond .ne 6, 3) := dk_154 0 6 (dk_at dksX1_isWithin_8 11 rfl rfl)
theorem dX1_isWithin_202 : decode cX1_isWithin 202 = .ok (.goto 6, 3) := dk_167 0 6 (dk_at dksX1_isWithin_8 14 rfl rfl)
theorem dX1_isWithin_205 : decode cX1_isWithin 205 = .ok (.goto (-158), 3) := dk_167 255 98 (dk_at dksX1_isWithin_8 17 rfl rfl)
theorem dX1_isWithin_208 : decode cX1_isWithin 208 = .ok (.iinc 4 1, 3) := dk_132 4 1 (dk_at dksX1_isWithin_8 20 rfl rfl)
theorem dX1_isWithin_211 : decode cX1_isWithin 211 = .ok (.goto (-199), 3) := dk_167 255 57 (dk_at dksX1_isWithin_9 0 rfl rfl)
theorem dX1_isWithin_214 : decode cX1_isWithin 214 = .ok (.iconst 0, 1) := dk_3 (dk_at dksX1_isWithin_9 3 rfl rfl)
theorem dX1_isWithin_215 : decode cX1_isWithin 215 = .ok (.ireturn, 1) := dk_172 (dk_at dksX1_isWithin_9 4 rfl rfl)
abbrev cX1_swap : ByteArray := prog_1_method_35_code
def yX1_swap : MethodName := ⟨RX1, "swap", "(IJIJ)I"⟩
def dkwX1_swap_9 : List UInt8 := [182, 0, 224, 87, 42, 180, 0, 40, 9, 4, 182, 0, 227, 42, 182, 1, 54, 4, 172]
abbrev dktX1_swap_9 : List UInt8 := dkwX1_swap_9 ++ []
def dkwX1_swap_8 : List UInt8 := [3, 21, 4, 182, 0, 224, 7, 21, 11, 182, 0, 224, 16, 8, 22, 5, 182, 0, 231, 16, 16, 21, 10]
abbrev dktX1_swap_8 : List UInt8 := dkwX1_swap_8 ++ dktX1_swap_9
def dkwX1_swap_7 : List UInt8 := [42, 182, 1, 38, 42, 27, 32, 21, 9, 21, 8, 182, 1, 40, 42, 180, 0, 40, 5, 16, 48, 182, 0, 220]
abbrev dktX1_swap_7 : List UInt8 := dkwX1_swap_7 ++ dktX1_swap_8
def dkwX1_swap_6 : List UInt8 := [42, 180, 0, 58, 180, 0, 182, 4, 160, 0, 16, 42, 27, 21, 9, 182, 1, 66, 153, 0, 6, 16, 247, 172]
abbrev dktX1_swap_6 : List UInt8 := dkwX1_swap_6 ++ dktX1_swap_7
def dkwX1_swap_5 : List UInt8 := [21, 4, 21, 11, 182, 1, 66, 153, 0, 6, 16, 247, 172, 42, 21, 9, 42, 180, 0, 58, 182, 0, 214, 87]
abbrev dktX1_swap_5 : List UInt8 := dkwX1_swap_5 ++ dktX1_swap_6
def dkwX1_swap_4 : List UInt8 := [54, 11, 21, 9, 21, 11, 160, 0, 5, 3, 172, 42, 180, 0, 58, 180, 0, 182, 4, 160, 0, 17, 42]
abbrev dktX1_swap_4 : List UInt8 := dkwX1_swap_4 ++ dktX1_swap_5
def dkwX1_swap_3 : List UInt8 := [54, 9, 42, 180, 0, 207, 54, 10, 21, 9, 154, 0, 6, 16, 252, 172, 42, 180, 0, 58, 180, 0, 177]
abbrev dktX1_swap_3 : List UInt8 := dkwX1_swap_3 ++ dktX1_swap_4
def dkwX1_swap_2 : List UInt8 := [180, 0, 61, 182, 1, 25, 54, 7, 21, 7, 156, 0, 6, 21, 7, 172, 42, 21, 4, 22, 5, 182, 1, 29]
abbrev dktX1_swap_2 : List UInt8 := dkwX1_swap_2 ++ dktX1_swap_3
def dkwX1_swap_1 : List UInt8 := [182, 1, 60, 54, 7, 21, 7, 156, 0, 6, 21, 7, 172, 42, 180, 0, 207, 54, 8, 42, 21, 4, 42]
abbrev dktX1_swap_1 : List UInt8 := dkwX1_swap_1 ++ dktX1_swap_2
def dkwX1_swap_0 : List UInt8 := [42, 180, 0, 28, 154, 0, 6, 16, 254, 172, 22, 5, 184, 1, 18, 154, 0, 6, 16, 253, 172, 42, 27, 32]
abbrev dktX1_swap_0 : List UInt8 := dkwX1_swap_0 ++ dktX1_swap_1
theorem dksX1_swap_0 : cX1_swap.data.toList.drop 0 = dktX1_swap_0 := by decide +kernel
theorem dksX1_swap_1 : cX1_swap.data.toList.drop 24 = dktX1_swap_1 := dk_seg dksX1_swap_0 24 rfl rfl
theorem dksX1_swap_2 : cX1_swap.data.toList.drop 47 = dktX1_swap_2 := dk_seg dksX1_swap_1 23 rfl rfl
theorem dksX1_swap_3 : cX1_swap.data.toList.drop 71 = dktX1_swap_3 := dk_seg dksX1_swap_2 24 rfl rfl
theorem dksX1_swap_4 : cX1_swap.data.toList.drop 94 = dktX1_swap_4 := dk_seg dksX1_swap_3 23 rfl rfl
theorem dksX1_swap_5 : cX1_swap.data.toList.drop 117 = dktX1_swap_5 := dk_seg dksX1_swap_4 23 rfl rfl
theorem dksX1_swap_6 : cX1_swap.data.toList.drop 141 = dktX1_swap_6 := dk_seg dksX1_swap_5 24 rfl rfl
theorem dksX1_swap_7 : cX1_swap.data.toList.drop 165 = dktX1_swap_7 := dk_seg dksX1_swap_6 24 rfl rfl
theorem dksX1_swap_8 : cX1_swap.data.toList.drop 189 = dktX1_swap_8 := dk_seg dksX1_swap_7 24 rfl rfl
theorem dksX1_swap_9 : cX1_swap.data.toList.drop 212 = dktX1_swap_9 := dk_seg dksX1_swap_8 23 rfl rfl
theorem dX1_swap_0 : decode cX1_swap 0 = .ok (.aload_n 0, 1) := dk_42 (dk_at dksX1_swap_0 0 rfl rfl)
theorem dX1_swap_1 : decode cX1_swap 1 = .ok (.getfield 28, 3) := dk_180 0 28 (dk_at dksX1_swap_0 1 rfl rfl)
theorem dX1_swap_4 : decode cX1_swap 4 = .ok (.ifCond .ne 6, 3) := dk_154 0 6 (dk_at dksX1_swap_0 4 rfl rfl)
theorem dX1_swap_7 : decode cX1_swap 7 = .ok (.bipush (-2), 2) := dk_16 254 (dk_at dksX1_swap_0 7 rfl rfl)
theorem dX1_swap_9 : decode cX1_swap 9 = .ok (.ireturn, 1) := dk_172 (dk_at dksX1_swap_0 9 rfl rfl)
theorem dX1_swap_10 : decode cX1_swap 10 = .ok (.lload 5, 2) := dk_22 5 (dk_at dksX1_swap_0 10 rfl rfl)
theorem dX1_swap_12 : decode cX1_swap 12 = .ok (.invokestatic 274, 3) := dk_184 1 18 (dk_at dksX1_swap_0 12 rfl rfl)
theorem dX1_swap_15 : decode cX1_swap 15 = .ok (.ifCond .ne 6, 3) := dk_154 0 6 (dk_at dksX1_swap_0 15 rfl rfl)
theorem dX1_swap_18 : decode cX1_swap 18 = .ok (.bipush (-3), 2) := dk_16 253 (dk_at dksX1_swap_0 18 rfl rfl)
theorem dX1_swap_20 : decode cX1_swap 20 = .ok (.ireturn, 1) := dk_172 (dk_at dksX1_swap_0 20 rfl rfl)
theorem dX1_swap_21 : decode cX1_swap 21 = .ok (.aload_n 0, 1) := dk_42 (dk_at dksX1_swap_0 21 rfl rfl)
theorem dX1_swap_22 : decode cX1_swap 22 = .ok (.iload_n 1, 1) := dk_27 (dk_at dksX1_swap_0 22 rfl rfl)
theorem dX1_swap_23 : decode cX1_swap 23 = .ok (.lload_n 2, 1) := dk_32 (dk_at dksX1_swap_0 23 rfl rfl)
theorem dX1_swap_24 : decode cX1_swap 24 = .ok (.invokevirtual 316, 3) := dk_182 1 60 (dk_at dksX1_swap_1 0 rfl rfl)
theorem dX1_swap_27 : decode cX1_swap 27 = .ok (.istore 7, 2) := dk_54 7 (dk_at dksX1_swap_1 3 rfl rfl)
theorem dX1_swap_29 : decode cX1_swap 29 = .ok (.iload 7, 2) := dk_21 7 (dk_at dksX1_swap_1 5 rfl rfl)
theorem dX1_swap_31 : decode cX1_swap 31 = .ok (.ifCond .ge 6, 3) := dk_156 0 6 (dk_at dksX1_swap_1 7 rfl rfl)
theorem dX1_swap_34 : decode cX1_swap 34 = .ok (.iload 7, 2) := dk_21 7 (dk_at dksX1_swap_1 10 rfl rfl)
theorem dX1_swap_36 : decode cX1_swap 36 = .ok (.ireturn, 1) := dk_172 (dk_at dksX1_swap_1 12 rfl rfl)
theorem dX1_swap_37 : decode cX1_swap 37 = .ok (.aload_n 0, 1) := dk_42 (dk_at dksX1_swap_1 13 rfl rfl)
theorem dX1_swap_38 : decode cX1_swap 38 = .ok (.getfield 207, 3) := dk_180 0 207 (dk_at dksX1_swap_1 14 rfl rfl)
theorem dX1_swap_41 : decode cX1_swap 41 = .ok (.istore 8, 2) := dk_54 8 (dk_at dksX1_swap_1 17 rfl rfl)
theorem dX1_swap_43 : decode cX1_swap 43 = .ok (.aload_n 0, 1) := dk_42 (dk_at dksX1_swap_1 19 rfl rfl)
theorem dX1_swap_44 : decode cX1_swap 44 = .ok (.iload 4, 2) := dk_21 4 (dk_at dksX1_swap_1 20 rfl rfl)
theorem dX1_swap_46 : decode cX1_swap 46 = .ok (.aload_n 0, 1) := dk_42 (dk_at dksX1_swap_1 22 rfl rfl)
theorem dX1_swap_47 : decode cX1_swap 47 = .ok (.getfield 61, 3) := dk_180 0 61 (dk_at dksX1_swap_2 0 rfl rfl)
theorem dX1_swap_50 : decode cX1_swap 50 = .ok (.invokevirtual 281, 3) := dk_182 1 25 (dk_at dksX1_swap_2 3 rfl rfl)
theorem dX1_swap_53 : decode cX1_swap 53 = .ok (.istore 7, 2) := dk_54 7 (dk_at dksX1_swap_2 6 rfl rfl)
theorem dX1_swap_55 : decode cX1_swap 55 = .ok (.iload 7, 2) := dk_21 7 (dk_at dksX1_swap_2 8 rfl rfl)
theorem dX1_swap_57 : decode cX1_swap 57 = .ok (.ifCond .ge 6, 3) := dk_156 0 6 (dk_at dksX1_swap_2 10 rfl rfl)
theorem dX1_swap_60 : decode cX1_swap 60 = .ok (.iload 7, 2) := dk_21 7 (dk_at dksX1_swap_2 13 rfl rfl)
theorem dX1_swap_62 : decode cX1_swap 62 = .ok (.ireturn, 1) := dk_172 (dk_at dksX1_swap_2 15 rfl rfl)
theorem dX1_swap_63 : decode cX1_swap 63 = .ok (.aload_n 0, 1) := dk_42 (dk_at dksX1_swap_2 16 rfl rfl)
theorem dX1_swap_64 : decode cX1_swap 64 = .ok (.iload 4, 2) := dk_21 4 (dk_at dksX1_swap_2 17 rfl rfl)
theorem dX1_swap_66 : decode cX1_swap 66 = .ok (.lload 5, 2) := dk_22 5 (dk_at dksX1_swap_2 19 rfl rfl)
theorem dX1_swap_68 : decode cX1_swap 68 = .ok (.invokevirtual 285, 3) := dk_182 1 29 (dk_at dksX1_swap_2 21 rfl rfl)
theorem dX1_swap_71 : decode cX1_swap 71 = .ok (.istore 9, 2) := dk_54 9 (dk_at dksX1_swap_3 0 rfl rfl)
theorem dX1_swap_73 : decode cX1_swap 73 = .ok (.aload_n 0, 1) := dk_42 (dk_at dksX1_swap_3 2 rfl rfl)
theorem dX1_swap_74 : decode cX1_swap 74 = .ok (.getfield 207, 3) := dk_180 0 207 (dk_at dksX1_swap_3 3 rfl rfl)
theorem dX1_swap_77 : decode cX1_swap 77 = .ok (.istore 10, 2) := dk_54 10 (dk_at dksX1_swap_3 6 rfl rfl)
theorem dX1_swap_79 : decode cX1_swap 79 = .ok (.iload 9, 2) := dk_21 9 (dk_at dksX1_swap_3 8 rfl rfl)
theorem dX1_swap_81 : decode cX1_swap 81 = .ok (.ifCond .ne 6, 3) := dk_154 0 6 (dk_at dksX1_swap_3 10 rfl rfl)
theorem dX1_swap_84 : decode cX1_swap 84 = .ok (.bipush (-4), 2) := dk_16 252 (dk_at dksX1_swap_3 13 rfl rfl)
theorem dX1_swap_86 : decode cX1_swap 86 = .ok (.ireturn, 1) := dk_172 (dk_at dksX1_swap_3 15 rfl rfl)
theorem dX1_swap_87 : decode cX1_swap 87 = .ok (.aload_n 0, 1) := dk_42 (dk_at dksX1_swap_3 16 rfl rfl)
theorem dX1_swap_88 : decode cX1_swap 88 = .ok (.getfield 58, 3) := dk_180 0 58 (dk_at dksX1_swap_3 17 rfl rfl)
theorem dX1_swap_91 : decode cX1_swap 91 = .ok (.getfield 177, 3) := dk_180 0 177 (dk_at dksX1_swap_3 20 rfl rfl)
theorem dX1_swap_94 : decode cX1_swap 94 = .ok (.istore 11, 2) := dk_54 11 (dk_at dksX1_swap_4 0 rfl rfl)
theorem dX1_swap_96 : decode cX1_swap 96 = .ok (.iload 9, 2) := dk_21 9 (dk_at dksX1_swap_4 2 rfl rfl)
theorem dX1_swap_98 : decode cX1_swap 98 = .ok (.iload 11, 2) := dk_21 11 (dk_at dksX1_swap_4 4 rfl rfl)
theorem dX1_swap_100 : decode cX1_swap 100 = .ok (.if_icmp .ne 5, 3) := dk_160 0 5 (dk_at dksX1_swap_4 6 rfl rfl)
theorem dX1_swap_103 : decode cX1_swap 103 = .ok (.iconst 0, 1) := dk_3 (dk_at dksX1_swap_4 9 rfl rfl)
theorem dX1_swap_104 : decode cX1_swap 104 = .ok (.ireturn, 1) := dk_172 (dk_at dksX1_swap_4 10 rfl rfl)
theorem dX1_swap_105 : decode cX1_swap 105 = .ok (.aload_n 0, 1) := dk_42 (dk_at dksX1_swap_4 11 rfl rfl)
theorem dX1_swap_106 : decode cX1_swap 106 = .ok (.getfield 58, 3) := dk_180 0 58 (dk_at dksX1_swap_4 12 rfl rfl)
theorem dX1_swap_109 : decode cX1_swap 109 = .ok (.getfield 182, 3) := dk_180 0 182 (dk_at dksX1_swap_4 15 rfl rfl)
theorem dX1_swap_112 : decode cX1_swap 112 = .ok (.iconst 1, 1) := dk_4 (dk_at dksX1_swap_4 18 rfl rfl)
theorem dX1_swap_113 : decode cX1_swap 113 = .ok (.if_icmp .ne 17, 3) := dk_160 0 17 (dk_at dksX1_swap_4 19 rfl rfl)
theorem dX1_swap_116 : decode cX1_swap 116 = .ok (.aload_n 0, 1) := dk_42 (dk_at dksX1_swap_4 22 rfl rfl)
theorem dX1_swap_117 : decode cX1_swap 117 = .ok (.iload 4, 2) := dk_21 4 (dk_at dksX1_swap_5 0 rfl rfl)
theorem dX1_swap_119 : decode cX1_swap 119 = .ok (.iload 11, 2) := dk_21 11 (dk_at dksX1_swap_5 2 rfl rfl)
theorem dX1_swap_121 : decode cX1_swap 121 = .ok (.invokevirtual 322, 3) := dk_182 1 66 (dk_at dksX1_swap_5 4 rfl rfl)
theorem dX1_swap_124 : decode cX1_swap 124 = .ok (.ifCond .eq 6, 3) := dk_153 0 6 (dk_at dksX1_swap_5 7 rfl rfl)
theorem dX1_swap_127 : decode cX1_swap 127 = .ok (.bipush (-9), 2) := dk_16 247 (dk_at dksX1_swap_5 10 rfl rfl)
theorem dX1_swap_129 : decode cX1_swap 129 = .ok (.ireturn, 1) := dk_172 (dk_at dksX1_swap_5 12 rfl rfl)
theorem dX1_swap_130 : decode cX1_swap 130 = .ok (.aload_n 0, 1) := dk_42 (dk_at dksX1_swap_5 13 rfl rfl)
theorem dX1_swap_131 : decode cX1_swap 131 = .ok (.iload 9, 2) := dk_21 9 (dk_at dksX1_swap_5 14 rfl rfl)
theorem dX1_swap_133 : decode cX1_swap 133 = .ok (.aload_n 0, 1) := dk_42 (dk_at dksX1_swap_5 16 rfl rfl)
theorem dX1_swap_134 : decode cX1_swap 134 = .ok (.getfield 58, 3) := dk_180 0 58 (dk_at dksX1_swap_5 17 rfl rfl)
theorem dX1_swap_137 : decode cX1_swap 137 = .ok (.invokevirtual 214, 3) := dk_182 0 214 (dk_at dksX1_swap_5 20 rfl rfl)
theorem dX1_swap_140 : decode cX1_swap 140 = .ok (.pop, 1) := dk_87 (dk_at dksX1_swap_5 23 rfl rfl)
theorem dX1_swap_141 : decode cX1_swap 141 = .ok (.aload_n 0, 1) := dk_42 (dk_at dksX1_swap_6 0 rfl rfl)
theorem dX1_swap_142 : decode cX1_swap 142 = .ok (.getfield 58, 3) := dk_180 0 58 (dk_at dksX1_swap_6 1 rfl rfl)
theorem dX1_swap_145 : decode cX1_swap 145 = .ok (.getfield 182, 3) := dk_180 0 182 (dk_at dksX1_swap_6 4 rfl rfl)
theorem dX1_swap_148 : decode cX1_swap 148 = .ok (.iconst 1, 1) := dk_4 (dk_at dksX1_swap_6 7 rfl rfl)
theorem dX1_swap_149 : decode cX1_swap 149 = .ok (.if_icmp .ne 16, 3) := dk_160 0 16 (dk_at dksX1_swap_6 8 rfl rfl)
theorem dX1_swap_152 : decode cX1_swap 152 = .ok (.aload_n 0, 1) := dk_42 (dk_at dksX1_swap_6 11 rfl rfl)
theorem dX1_swap_153 : decode cX1_swap 153 = .ok (.iload_n 1, 1) := dk_27 (dk_at dksX1_swap_6 12 rfl rfl)
theorem dX1_swap_154 : decode cX1_swap 154 = .ok (.iload 9, 2) := dk_21 9 (dk_at dksX1_swap_6 13 rfl rfl)
theorem dX1_swap_156 : decode cX1_swap 156 = .ok (.invokevirtual 322, 3) := dk_182 1 66 (dk_at dksX1_swap_6 15 rfl rfl)
theorem dX1_swap_159 : decode cX1_swap 159 = .ok (.ifCond .eq 6, 3) := dk_153 0 6 (dk_at dksX1_swap_6 18 rfl rfl)
theorem dX1_swap_162 : decode cX1_swap 162 = .ok (.bipush (-9), 2) := dk_16 247 (dk_at dksX1_swap_6 21 rfl rfl)
theorem dX1_swap_164 : decode cX1_swap 164 = .ok (.ireturn, 1) := dk_172 (dk_at dksX1_swap_6 23 rfl rfl)
theorem dX1_swap_165 : decode cX1_swap 165 = .ok (.aload_n 0, 1) := dk_42 (dk_at dksX1_swap_7 0 rfl rfl)
theorem dX1_swap_166 : decode cX1_swap 166 = .ok (.invokevirtual 294, 3) := dk_182 1 38 (dk_at dksX1_swap_7 1 rfl rfl)
theorem dX1_swap_169 : decode cX1_swap 169 = .ok (.aload_n 0, 1) := dk_42 (dk_at dksX1_swap_7 4 rfl rfl)
theorem dX1_swap_170 : decode cX1_swap 170 = .ok (.iload_n 1, 1) := dk_27 (dk_at dksX1_swap_7 5 rfl rfl)
theorem dX1_swap_171 : decode cX1_swap 171 = .ok (.lload_n 2, 1) := dk_32 (dk_at dksX1_swap_7 6 rfl rfl)
theorem dX1_swap_172 : decode cX1_swap 172 = .ok (.iload 9, 2) := dk_21 9 (dk_at dksX1_swap_7 7 rfl rfl)
theorem dX1_swap_174 : decode cX1_swap 174 = .ok (.iload 8, 2) := dk_21 8 (dk_at dksX1_swap_7 9 rfl rfl)
theorem dX1_swap_176 : decode cX1_swap 176 = .ok (.invokevirtual 296, 3) := dk_182 1 40 (dk_at dksX1_swap_7 11 rfl rfl)
theorem dX1_swap_179 : decode cX1_swap 179 = .ok (.aload_n 0, 1) := dk_42 (dk_at dksX1_swap_7 14 rfl rfl)
theorem dX1_swap_180 : decode cX1_swap 180 = .ok (.getfield 40, 3) := dk_180 0 40 (dk_at dksX1_swap_7 15 rfl rfl)
theorem dX1_swap_183 : decode cX1_swap 183 = .ok (.iconst 2, 1) := dk_5 (dk_at dksX1_swap_7 18 rfl rfl)
theorem dX1_swap_184 : decode cX1_swap 184 = .ok (.bipush 48, 2) := dk_16 48 (dk_at dksX1_swap_7 19 rfl rfl)
theorem dX1_swap_186 : decode cX1_swap 186 = .ok (.invokevirtual 220, 3) := dk_182 0 220 (dk_at dksX1_swap_7 21 rfl rfl)
theorem dX1_swap_189 : decode cX1_swap 189 = .ok (.iconst 0, 1) := dk_3 (dk_at dksX1_swap_8 0 rfl rfl)
theorem dX1_swap_190 : decode cX1_swap 190 = .ok (.iload 4, 2) := dk_21 4 (dk_at dksX1_swap_8 1 rfl rfl)
theorem dX1_swap_192 : decode cX1_swap 192 = .ok (.invokevirtual 224, 3) := dk_182 0 224 (dk_at dksX1_swap_8 3 rfl rfl)
theorem dX1_swap_195 : decode cX1_swap 195 = .ok (.iconst 4, 1) := dk_7 (dk_at dksX1_swap_8 6 rfl rfl)
theorem dX1_swap_196 : decode cX1_swap 196 = .ok (.iload 11, 2) := dk_21 11 (dk_at dksX1_swap_8 7 rfl rfl)
theorem dX1_swap_198 : decode cX1_swap 198 = .ok (.invokevirtual 224, 3) := dk_182 0 224 (dk_at dksX1_swap_8 9 rfl rfl)
theorem dX1_swap_201 : decode cX1_swap 201 = .ok (.bipush 8, 2) := dk_16 8 (dk_at dksX1_swap_8 12 rfl rfl)
theorem dX1_swap_203 : decode cX1_swap 203 = .ok (.lload 5, 2) := dk_22 5 (dk_at dksX1_swap_8 14 rfl rfl)
theorem dX1_swap_205 : decode cX1_swap 205 = .ok (.invokevirtual 231, 3) := dk_182 0 231 (dk_at dksX1_swap_8 16 rfl rfl)
theorem dX1_swap_208 : decode cX1_swap 208 = .ok (.bipush 16, 2) := dk_16 16 (dk_at dksX1_swap_8 19 rfl rfl)
theorem dX1_swap_210 : decode cX1_swap 210 = .ok (.iload 10, 2) := dk_21 10 (dk_at dksX1_swap_8 21 rfl rfl)
theorem dX1_swap_212 : decode cX1_swap 212 = .ok (.invokevirtual 224, 3) := dk_182 0 224 (dk_at dksX1_swap_9 0 rfl rfl)
theorem dX1_swap_215 : decode cX1_swap 215 = .ok (.pop, 1) := dk_87 (dk_at dksX1_swap_9 3 rfl rfl)
theorem dX1_swap_216 : decode cX1_swap 216 = .ok (.aload_n 0, 1) := dk_42 (dk_at dksX1_swap_9 4 rfl rfl)
theorem dX1_swap_217 : decode cX1_swap 217 = .ok (.getfield 40, 3) := dk_180 0 40 (dk_at dksX1_swap_9 5 rfl rfl)
theorem dX1_swap_220 : decode cX1_swap 220 = .ok (.lconst 0, 1) := dk_9 (dk_at dksX1_swap_9 8 rfl rfl)
theorem dX1_swap_221 : decode cX1_swap 221 = .ok (.iconst 1, 1) := dk_4 (dk_at dksX1_swap_9 9 rfl rfl)
theorem dX1_swap_222 : decode cX1_swap 222 = .ok (.invokevirtual 227, 3) := dk_182 0 227 (dk_at dksX1_swap_9 10 rfl rfl)
theorem dX1_swap_225 : decode cX1_swap 225 = .ok (.aload_n 0, 1) := dk_42 (dk_at dksX1_swap_9 13 rfl rfl)
theorem dX1_swap_226 : decode cX1_swap 226 = .ok (.invokevirtual 310, 3) := dk_182 1 54 (dk_at dksX1_swap_9 14 rfl rfl)
theorem dX1_swap_229 : decode cX1_swap 229 = .ok (.iconst 1, 1) := dk_4 (dk_at dksX1_swap_9 17 rfl rfl)
theorem dX1_swap_230 : decode cX1_swap 230 = .ok (.ireturn, 1) := dk_172 (dk_at dksX1_swap_9 18 rfl rfl)
abbrev cX1_look : ByteArray := prog_1_method_36_code
def yX1_look : MethodName := ⟨RX1, "look", "(IJ)I"⟩
def dkwX1_look_1 : List UInt8 := [21, 4, 167, 0, 10, 42, 180, 0, 58, 180, 0, 177, 172]
abbrev dktX1_look_1 : List UInt8 := dkwX1_look_1 ++ []
def dkwX1_look_0 : List UInt8 := [42, 180, 0, 28, 154, 0, 6, 16, 254, 172, 42, 27, 32, 182, 1, 60, 54, 4, 21, 4, 156, 0, 8]
abbrev dktX1_look_0 : List UInt8 := dkwX1_look_0 ++ dktX1_look_1
theorem dksX1_look_0 : cX1_look.data.toList.drop 0 = dktX1_look_0 := by decide +kernel
theorem dksX1_look_1 : cX1_look.data.toList.drop 23 = dktX1_look_1 := dk_seg dksX1_look_0 23 rfl rfl
theorem dX1_look_0 : decode cX1_look 0 = .ok (.aload_n 0, 1) := dk_42 (dk_at dksX1_look_0 0 rfl rfl)
theorem dX1_look_1 : decode cX1_look 1 = .ok (.getfield 28, 3) := dk_180 0 28 (dk_at dksX1_look_0 1 rfl rfl)
theorem dX1_look_4 : decode cX1_look 4 = .ok (.ifCond .ne 6, 3) := dk_154 0 6 (dk_at dksX1_look_0 4 rfl rfl)
theorem dX1_look_7 : decode cX1_look 7 = .ok (.bipush (-2), 2) := dk_16 254 (dk_at dksX1_look_0 7 rfl rfl)
theorem dX1_look_9 : decode cX1_look 9 = .ok (.ireturn, 1) := dk_172 (dk_at dksX1_look_0 9 rfl rfl)
theorem dX1_look_10 : decode cX1_look 10 = .ok (.aload_n 0, 1) := dk_42 (dk_at dksX1_look_0 10 rfl rfl)
theorem dX1_look_11 : decode cX1_look 11 = .ok (.iload_n 1, 1) := dk_27 (dk_at dksX1_look_0 11 rfl rfl)
theorem dX1_look_12 : decode cX1_look 12 = .ok (.lload_n 2, 1) := dk_32 (dk_at dksX1_look_0 12 rfl rfl)
theorem dX1_look_13 : decode cX1_look 13 = .ok (.invokevirtual 316, 3) := dk_182 1 60 (dk_at dksX1_look_0 13 rfl rfl)
theorem dX1_look_16 : decode cX1_look 16 = .ok (.istore 4, 2) := dk_54 4 (dk_at dksX1_look_0 16 rfl rfl)
theorem dX1_look_18 : decode cX1_look 18 = .ok (.iload 4, 2) := dk_21 4 (dk_at dksX1_look_0 18 rfl rfl)
theorem dX1_look_20 : decode cX1_look 20 = .ok (.ifCond .ge 8, 3) := dk_156 0 8 (dk_at dksX1_look_0 20 rfl rfl)
theorem dX1_look_23 : decode cX1_look 23 = .ok (.iload 4, 2) := dk_21 4 (dk_at dksX1_look_1 0 rfl rfl)
theorem dX1_look_25 : decode cX1_look 25 = .ok (.goto 10, 3) := dk_167 0 10 (dk_at dksX1_look_1 2 rfl rfl)
theorem dX1_look_28 : decode cX1_look 28 = .ok (.aload_n 0, 1) := dk_42 (dk_at dksX1_look_1 5 rfl rfl)
theorem dX1_look_29 : decode cX1_look 29 = .ok (.getfield 58, 3) := dk_180 0 58 (dk_at dksX1_look_1 6 rfl rfl)
theorem dX1_look_32 : decode cX1_look 32 = .ok (.getfield 177, 3) := dk_180 0 177 (dk_at dksX1_look_1 9 rfl rfl)
theorem dX1_look_35 : decode cX1_look 35 = .ok (.ireturn, 1) := dk_172 (dk_at dksX1_look_1 12 rfl rfl)
abbrev cX1_list : ByteArray := prog_1_method_37_code
def yX1_list : MethodName := ⟨RX1, "list", "(II)J"⟩
def dkwX1_list_5 : List UInt8 := [167, 255, 182, 9, 173]
abbrev dktX1_list_5 : List UInt8 := dkwX1_list_5 ++ []
def dkwX1_list_4 : List UInt8 := [167, 255, 217, 21, 5, 28, 160, 0, 14, 42, 180, 0, 70, 21, 4, 47, 184, 1, 79, 173, 132, 4, 1]
abbrev dktX1_list_4 : List UInt8 := dkwX1_list_4 ++ dktX1_list_5
def dkwX1_list_3 : List UInt8 := [42, 180, 0, 70, 21, 4, 47, 184, 1, 73, 156, 0, 7, 4, 167, 0, 4, 3, 96, 54, 5, 132, 6, 1]
abbrev dktX1_list_3 : List UInt8 := dkwX1_list_3 ++ dktX1_list_4
def dkwX1_list_2 : List UInt8 := [162, 0, 74, 3, 54, 5, 3, 54, 6, 21, 6, 29, 162, 0, 39, 21, 5, 42, 180, 0, 70, 21, 6, 47]
abbrev dktX1_list_2 : List UInt8 := dkwX1_list_2 ++ dktX1_list_3
def dkwX1_list_1 : List UInt8 := [42, 180, 0, 54, 180, 0, 189, 161, 0, 5, 9, 173, 42, 27, 182, 1, 70, 62, 3, 54, 4, 21, 4, 29]
abbrev dktX1_list_1 : List UInt8 := dkwX1_list_1 ++ dktX1_list_2
def dkwX1_list_0 : List UInt8 := [42, 180, 0, 28, 153, 0, 30, 28, 155, 0, 26, 42, 27, 42, 180, 0, 54, 182, 1, 25, 155, 0, 14, 28]
abbrev dktX1_list_0 : List UInt8 := dkwX1_list_0 ++ dktX1_list_1
theorem dksX1_list_0 : cX1_list.data.toList.drop 0 = dktX1_list_0 := by decide +kernel
theorem dksX1_list_1 : cX1_list.data.toList.drop 24 = dktX1_list_1 := dk_seg dksX1_list_0 24 rfl rfl
theorem dksX1_list_2 : cX1_list.data.toList.drop 48 = dktX1_list_2 := dk_seg dksX1_list_1 24 rfl rfl
theorem dksX1_list_3 : cX1_list.data.toList.drop 72 = dktX1_list_3 := dk_seg dksX1_list_2 24 rfl rfl
theorem dksX1_list_4 : cX1_list.data.toList.drop 96 = dktX1_list_4 := dk_seg dksX1_list_3 24 rfl rfl
theorem dksX1_list_5 : cX1_list.data.toList.drop 119 = dktX1_list_5 := dk_seg dksX1_list_4 23 rfl rfl
theorem dX1_list_0 : decode cX1_list 0 = .ok (.aload_n 0, 1) := dk_42 (dk_at dksX1_list_0 0 rfl rfl)
theorem dX1_list_1 : decode cX1_list 1 = .ok (.getfield 28, 3) := dk_180 0 28 (dk_at dksX1_list_0 1 rfl rfl)
theorem dX1_list_4 : decode cX1_list 4 = .ok (.ifCond .eq 30, 3) := dk_153 0 30 (dk_at dksX1_list_0 4 rfl rfl)
theorem dX1_list_7 : decode cX1_list 7 = .ok (.iload_n 2, 1) := dk_28 (dk_at dksX1_list_0 7 rfl rfl)
theorem dX1_list_8 : decode cX1_list 8 = .ok (.ifCond .lt 26, 3) := dk_155 0 26 (dk_at dksX1_list_0 8 rfl rfl)
theorem dX1_list_11 : decode cX1_list 11 = .ok (.aload_n 0, 1) := dk_42 (dk_at dksX1_list_0 11 rfl rfl)
theorem dX1_list_12 : decode cX1_list 12 = .ok (.iload_n 1, 1) := dk_27 (dk_at dksX1_list_0 12 rfl rfl)
theorem dX1_list_13 : decode cX1_list 13 = .ok (.aload_n 0, 1) := dk_42 (dk_at dksX1_list_0 13 rfl rfl)
theorem dX1_list_14 : decode cX1_list 14 = .ok (.getfield 54, 3) := dk_180 0 54 (dk_at dksX1_list_0 14 rfl rfl)
theorem dX1_list_17 : decode cX1_list 17 = .ok (.invokevirtual 281, 3) := dk_182 1 25 (dk_at dksX1_list_0 17 rfl rfl)
theorem dX1_list_20 : decode cX1_list 20 = .ok (.ifCond .lt 14, 3) := dk_155 0 14 (dk_at dksX1_list_0 20 rfl rfl)
theorem dX1_list_23 : decode cX1_list 23 = .ok (.iload_n 2, 1) := dk_28 (dk_at dksX1_list_0 23 rfl rfl)
theorem dX1_list_24 : decode cX1_list 24 = .ok (.aload_n 0, 1) := dk_42 (dk_at dksX1_list_1 0 rfl rfl)
theorem dX1_list_25 : decode cX1_list 25 = .ok (.getfield 54, 3) := dk_180 0 54 (dk_at dksX1_list_1 1 rfl rfl)
theorem dX1_list_28 : decode cX1_list 28 = .ok (.getfield 189, 3) := dk_180 0 189 (dk_at dksX1_list_1 4 rfl rfl)
theorem dX1_list_31 : decode cX1_list 31 = .ok (.if_icmp .lt 5, 3) := dk_161 0 5 (dk_at dksX1_list_1 7 rfl rfl)
theorem dX1_list_34 : decode cX1_list 34 = .ok (.lconst 0, 1) := dk_9 (dk_at dksX1_list_1 10 rfl rfl)
theorem dX1_list_35 : decode cX1_list 35 = .ok (.lreturn, 1) := dk_173 (dk_at dksX1_list_1 11 rfl rfl)
theorem dX1_list_36 : decode cX1_list 36 = .ok (.aload_n 0, 1) := dk_42 (dk_at dksX1_list_1 12 rfl rfl)
theorem dX1_list_37 : decode cX1_list 37 = .ok (.iload_n 1, 1) := dk_27 (dk_at dksX1_list_1 13 rfl rfl)
theorem dX1_list_38 : decode cX1_list 38 = .ok (.invokevirtual 326, 3) := dk_182 1 70 (dk_at dksX1_list_1 14 rfl rfl)
theorem dX1_list_41 : decode cX1_list 41 = .ok (.istore_n 3, 1) := dk_62 (dk_at dksX1_list_1 17 rfl rfl)
theorem dX1_list_42 : decode cX1_list 42 = .ok (.iconst 0, 1) := dk_3 (dk_at dksX1_list_1 18 rfl rfl)
theorem dX1_list_43 : decode cX1_list 43 = .ok (.istore 4, 2) := dk_54 4 (dk_at dksX1_list_1 19 rfl rfl)
theorem dX1_list_45 : decode cX1_list 45 = .ok (.iload 4, 2) := dk_21 4 (dk_at dksX1_list_1 21 rfl rfl)
theorem dX1_list_47 : decode cX1_list 47 = .ok (.iload_n 3, 1) := dk_29 (dk_at dksX1_list_1 23 rfl rfl)
theorem dX1_list_48 : decode cX1_list 48 = .ok (.if_icmp .ge 74, 3) := dk_162 0 74 (dk_at dksX1_list_2 0 rfl rfl)
theorem dX1_list_51 : decode cX1_list 51 = .ok (.iconst 0, 1) := dk_3 (dk_at dksX1_list_2 3 rfl rfl)
theorem dX1_list_52 : decode cX1_list 52 = .ok (.istore 5, 2) := dk_54 5 (dk_at dksX1_list_2 4 rfl rfl)
theorem dX1_list_54 : decode cX1_list 54 = .ok (.iconst 0, 1) := dk_3 (dk_at dksX1_list_2 6 rfl rfl)
theorem dX1_list_55 : decode cX1_list 55 = .ok (.istore 6, 2) := dk_54 6 (dk_at dksX1_list_2 7 rfl rfl)
theorem dX1_list_57 : decode cX1_list 57 = .ok (.iload 6, 2) := dk_21 6 (dk_at dksX1_list_2 9 rfl rfl)
theorem dX1_list_59 : decode cX1_list 59 = .ok (.iload_n 3, 1) := dk_29 (dk_at dksX1_list_2 11 rfl rfl)
theorem dX1_list_60 : decode cX1_list 60 = .ok (.if_icmp .ge 39, 3) := dk_162 0 39 (dk_at dksX1_list_2 12 rfl rfl)
theorem dX1_list_63 : decode cX1_list 63 = .ok (.iload 5, 2) := dk_21 5 (dk_at dksX1_list_2 15 rfl rfl)
theorem dX1_list_65 : decode cX1_list 65 = .ok (.aload_n 0, 1) := dk_42 (dk_at dksX1_list_2 17 rfl rfl)
theorem dX1_list_66 : decode cX1_list 66 = .ok (.getfield 70, 3) := dk_180 0 70 (dk_at dksX1_list_2 18 rfl rfl)
theorem dX1_list_69 : decode cX1_list 69 = .ok (.iload 6, 2) := dk_21 6 (dk_at dksX1_list_2 21 rfl rfl)
theorem dX1_list_71 : decode cX1_list 71 = .ok (.laload, 1) := dk_47 (dk_at dksX1_list_2 23 rfl rfl)
theorem dX1_list_72 : decode cX1_list 72 = .ok (.aload_n 0, 1) := dk_42 (dk_at dksX1_list_3 0 rfl rfl)
theorem dX1_list_73 : decode cX1_list 73 = .ok (.getfield 70, 3) := dk_180 0 70 (dk_at dksX1_list_3 1 rfl rfl)
theorem dX1_list_76 : decode cX1_list 76 = .ok (.iload 4, 2) := dk_21 4 (dk_at dksX1_list_3 4 rfl rfl)
theorem dX1_list_78 : decode cX1_list 78 = .ok (.laload, 1) := dk_47 (dk_at dksX1_list_3 6 rfl rfl)
theorem dX1_list_79 : decode cX1_list 79 = .ok (.invokestatic 329, 3) := dk_184 1 73 (dk_at dksX1_list_3 7 rfl rfl)
theorem dX1_list_82 : decode cX1_list 82 = .ok (.ifCond .ge 7, 3) := dk_156 0 7 (dk_at dksX1_list_3 10 rfl rfl)
theorem dX1_list_85 : decode cX1_list 85 = .ok (.iconst 1, 1) := dk_4 (dk_at dksX1_list_3 13 rfl rfl)
theorem dX1_list_86 : decode cX1_list 86 = .ok (.goto 4, 3) := dk_167 0 4 (dk_at dksX1_list_3 14 rfl rfl)
theorem dX1_list_89 : decode cX1_list 89 = .ok (.iconst 0, 1) := dk_3 (dk_at dksX1_list_3 17 rfl rfl)
theorem dX1_list_90 : decode cX1_list 90 = .ok (.iadd, 1) := dk_96 (dk_at dksX1_list_3 18 rfl rfl)
theorem dX1_list_91 : decode cX1_list 91 = .ok (.istore 5, 2) := dk_54 5 (dk_at dksX1_list_3 19 rfl rfl)
theorem dX1_list_93 : decode cX1_list 93 = .ok (.iinc 6 1, 3) := dk_132 6 1 (dk_at dksX1_list_3 21 rfl rfl)
theorem dX1_list_96 : decode cX1_list 96 = .ok (.goto (-39), 3) := dk_167 255 217 (dk_at dksX1_list_4 0 rfl rfl)
theorem dX1_list_99 : decode cX1_list 99 = .ok (.iload 5, 2) := dk_21 5 (dk_at dksX1_list_4 3 rfl rfl)
theorem dX1_list_101 : decode cX1_list 101 = .ok (.iload_n 2, 1) := dk_28 (dk_at dksX1_list_4 5 rfl rfl)
theorem dX1_list_102 : decode cX1_list 102 = .ok (.if_icmp .ne 14, 3) := dk_160 0 14 (dk_at dksX1_list_4 6 rfl rfl)
theorem dX1_list_105 : decode cX1_list 105 = .ok (.aload_n 0, 1) := dk_42 (dk_at dksX1_list_4 9 rfl rfl)
theorem dX1_list_106 : decode cX1_list 106 = .ok (.getfield 70, 3) := dk_180 0 70 (dk_at dksX1_list_4 10 rfl rfl)
theorem dX1_list_109 : decode cX1_list 109 = .ok (.iload 4, 2) := dk_21 4 (dk_at dksX1_list_4 13 rfl rfl)
theorem dX1_list_111 : decode cX1_list 111 = .ok (.laload, 1) := dk_47 (dk_at dksX1_list_4 15 rfl rfl)
theorem dX1_list_112 : decode cX1_list 112 = .ok (.invokestatic 335, 3) := dk_184 1 79 (dk_at dksX1_list_4 16 rfl rfl)
theorem dX1_list_115 : decode cX1_list 115 = .ok (.lreturn, 1) := dk_173 (dk_at dksX1_list_4 19 rfl rfl)
theorem dX1_list_116 : decode cX1_list 116 = .ok (.iinc 4 1, 3) := dk_132 4 1 (dk_at dksX1_list_4 20 rfl rfl)
theorem dX1_list_119 : decode cX1_list 119 = .ok (.goto (-74), 3) := dk_167 255 182 (dk_at dksX1_list_5 0 rfl rfl)
theorem dX1_list_122 : decode cX1_list 122 = .ok (.lconst 0, 1) := dk_9 (dk_at dksX1_list_5 3 rfl rfl)
theorem dX1_list_123 : decode cX1_list 123 = .ok (.lreturn, 1) := dk_173 (dk_at dksX1_list_5 4 rfl rfl)
abbrev cX1_gather : ByteArray := prog_1_method_38_code
def yX1_gather : MethodName := ⟨RX1, "gather", "(I)I"⟩
def dkwX1_gather_6 : List UInt8 := [54, 4, 167, 255, 143, 29, 172]
abbrev dktX1_gather_6 : List UInt8 := dkwX1_gather_6 ++ []
def dkwX1_gather_5 : List UInt8 := [42, 180, 0, 74, 29, 132, 3, 1, 42, 180, 0, 111, 180, 0, 170, 7, 182, 0, 178, 79, 44, 182, 0, 153]
abbrev dktX1_gather_5 : List UInt8 := dkwX1_gather_5 ++ dktX1_gather_6
def dkwX1_gather_4 : List UInt8 := [182, 0, 173, 42, 180, 0, 70, 29, 42, 180, 0, 111, 180, 0, 170, 16, 8, 182, 0, 210, 184, 1, 79, 80]
abbrev dktX1_gather_4 : List UInt8 := dkwX1_gather_4 ++ dktX1_gather_5
def dkwX1_gather_3 : List UInt8 := [180, 0, 111, 44, 180, 0, 164, 44, 180, 0, 167, 44, 180, 0, 146, 42, 180, 0, 111, 180, 0, 170]
abbrev dktX1_gather_3 : List UInt8 := dkwX1_gather_3 ++ dktX1_gather_4
def dkwX1_gather_2 : List UInt8 := [148, 154, 0, 97, 44, 180, 0, 149, 20, 0, 18, 113, 20, 1, 82, 148, 153, 0, 6, 167, 0, 70, 42]
abbrev dktX1_gather_2 : List UInt8 := dkwX1_gather_2 ++ dktX1_gather_3
def dkwX1_gather_1 : List UInt8 := [9, 182, 0, 140, 54, 4, 21, 4, 153, 0, 114, 27, 153, 0, 16, 44, 180, 0, 149, 27, 5, 184, 0, 157]
abbrev dktX1_gather_1 : List UInt8 := dkwX1_gather_1 ++ dktX1_gather_2
def dkwX1_gather_0 : List UInt8 := [42, 180, 0, 111, 180, 0, 136, 77, 3, 62, 44, 27, 154, 0, 7, 9, 167, 0, 8, 27, 5, 184, 0, 157]
abbrev dktX1_gather_0 : List UInt8 := dkwX1_gather_0 ++ dktX1_gather_1
theorem dksX1_gather_0 : cX1_gather.data.toList.drop 0 = dktX1_gather_0 := by decide +kernel
theorem dksX1_gather_1 : cX1_gather.data.toList.drop 24 = dktX1_gather_1 := dk_seg dksX1_gather_0 24 rfl rfl
theorem dksX1_gather_2 : cX1_gather.data.toList.drop 48 = dktX1_gather_2 := dk_seg dksX1_gather_1 24 rfl rfl
theorem dksX1_gather_3 : cX1_gather.data.toList.drop 71 = dktX1_gather_3 := dk_seg dksX1_gather_2 23 rfl rfl
theorem dksX1_gather_4 : cX1_gather.data.toList.drop 93 = dktX1_gather_4 := dk_seg dksX1_gather_3 22 rfl rfl
theorem dksX1_gather_5 : cX1_gather.data.toList.drop 117 = dktX1_gather_5 := dk_seg dksX1_gather_4 24 rfl rfl
theorem dksX1_gather_6 : cX1_gather.data.toList.drop 141 = dktX1_gather_6 := dk_seg dksX1_gather_5 24 rfl rfl
theorem dX1_gather_0 : decode cX1_gather 0 = .ok (.aload_n 0, 1) := dk_42 (dk_at dksX1_gather_0 0 rfl rfl)
theorem dX1_gather_1 : decode cX1_gather 1 = .ok (.getfield 111, 3) := dk_180 0 111 (dk_at dksX1_gather_0 1 rfl rfl)
theorem dX1_gather_4 : decode cX1_gather 4 = .ok (.getfield 136, 3) := dk_180 0 136 (dk_at dksX1_gather_0 4 rfl rfl)
theorem dX1_gather_7 : decode cX1_gather 7 = .ok (.astore_n 2, 1) := dk_77 (dk_at dksX1_gather_0 7 rfl rfl)
theorem dX1_gather_8 : decode cX1_gather 8 = .ok (.iconst 0, 1) := dk_3 (dk_at dksX1_gather_0 8 rfl rfl)
theorem dX1_gather_9 : decode cX1_gather 9 = .ok (.istore_n 3, 1) := dk_62 (dk_at dksX1_gather_0 9 rfl rfl)
theorem dX1_gather_10 : decode cX1_gather 10 = .ok (.aload_n 2, 1) := dk_44 (dk_at dksX1_gather_0 10 rfl rfl)
theorem dX1_gather_11 : decode cX1_gather 11 = .ok (.iload_n 1, 1) := dk_27 (dk_at dksX1_gather_0 11 rfl rfl)
theorem dX1_gather_12 : decode cX1_gather 12 = .ok (.ifCond .ne 7, 3) := dk_154 0 7 (dk_at dksX1_gather_0 12 rfl rfl)
theorem dX1_gather_15 : decode cX1_gather 15 = .ok (.lconst 0, 1) := dk_9 (dk_at dksX1_gather_0 15 rfl rfl)
theorem dX1_gather_16 : decode cX1_gather 16 = .ok (.goto 8, 3) := dk_167 0 8 (dk_at dksX1_gather_0 16 rfl rfl)
theorem dX1_gather_19 : decode cX1_gather 19 = .ok (.iload_n 1, 1) := dk_27 (dk_at dksX1_gather_0 19 rfl rfl)
theorem dX1_gather_20 : decode cX1_gather 20 = .ok (.iconst 2, 1) := dk_5 (dk_at dksX1_gather_0 20 rfl rfl)
theorem dX1_gather_21 : decode cX1_gather 21 = .ok (.invokestatic 157, 3) := dk_184 0 157 (dk_at dksX1_gather_0 21 rfl rfl)
theorem dX1_gather_24 : decode cX1_gather 24 = .ok (.lconst 0, 1) := dk_9 (dk_at dksX1_gather_1 0 rfl rfl)
theorem dX1_gather_25 : decode cX1_gather 25 = .ok (.invokevirtual 140, 3) := dk_182 0 140 (dk_at dksX1_gather_1 1 rfl rfl)
theorem dX1_gather_28 : decode cX1_gather 28 = .ok (.istore 4, 2) := dk_54 4 (dk_at dksX1_gather_1 4 rfl rfl)
theorem dX1_gather_30 : decode cX1_gather 30 = .ok (.iload 4, 2) := dk_21 4 (dk_at dksX1_gather_1 6 rfl rfl)
theorem dX1_gather_32 : decode cX1_gather 32 = .ok (.ifCond .eq 114, 3) := dk_153 0 114 (dk_at dksX1_gather_1 8 rfl rfl)
theorem dX1_gather_35 : decode cX1_gather 35 = .ok (.iload_n 1, 1) := dk_27 (dk_at dksX1_gather_1 11 rfl rfl)
theorem dX1_gather_36 : decode cX1_gather 36 = .ok (.ifCond .eq 16, 3) := dk_153 0 16 (dk_at dksX1_gather_1 12 rfl rfl)
theorem dX1_gather_39 : decode cX1_gather 39 = .ok (.aload_n 2, 1) := dk_44 (dk_at dksX1_gather_1 15 rfl rfl)
theorem dX1_gather_40 : decode cX1_gather 40 = .ok (.getfield 149, 3) := dk_180 0 149 (dk_at dksX1_gather_1 16 rfl rfl)
theorem dX1_gather_43 : decode cX1_gather 43 = .ok (.iload_n 1, 1) := dk_27 (dk_at dksX1_gather_1 19 rfl rfl)
theorem dX1_gather_44 : decode cX1_gather 44 = .ok (.iconst 2, 1) := dk_5 (dk_at dksX1_gather_1 20 rfl rfl)
theorem dX1_gather_45 : decode cX1_gather 45 = .ok (.invokestatic 157, 3) := dk_184 0 157 (dk_at dksX1_gather_1 21 rfl rfl)
theorem dX1_gather_48 : decode cX1_gather 48 = .ok (.lcmp, 1) := dk_148 (dk_at dksX1_gather_2 0 rfl rfl)
theorem dX1_gather_49 : decode cX1_gather 49 = .ok (.ifCond .ne 97, 3) := dk_154 0 97 (dk_at dksX1_gather_2 1 rfl rfl)
theorem dX1_gather_52 : decode cX1_gather 52 = .ok (.aload_n 2, 1) := dk_44 (dk_at dksX1_gather_2 4 rfl rfl)
theorem dX1_gather_53 : decode cX1_gather 53 = .ok (.getfield 149, 3) := dk_180 0 149 (dk_at dksX1_gather_2 5 rfl rfl)
theorem dX1_gather_56 : decode cX1_gather 56 = .ok (.ldc2_w 18, 3) := dk_20 0 18 (dk_at dksX1_gather_2 8 rfl rfl)
theorem dX1_gather_59 : decode cX1_gather 59 = .ok (.lrem, 1) := dk_113 (dk_at dksX1_gather_2 11 rfl rfl)
theorem dX1_gather_60 : decode cX1_gather 60 = .ok (.ldc2_w 338, 3) := dk_20 1 82 (dk_at dksX1_gather_2 12 rfl rfl)
theorem dX1_gather_63 : decode cX1_gather 63 = .ok (.lcmp, 1) := dk_148 (dk_at dksX1_gather_2 15 rfl rfl)
theorem dX1_gather_64 : decode cX1_gather 64 = .ok (.ifCond .eq 6, 3) := dk_153 0 6 (dk_at dksX1_gather_2 16 rfl rfl)
theorem dX1_gather_67 : decode cX1_gather 67 = .ok (.goto 70, 3) := dk_167 0 70 (dk_at dksX1_gather_2 19 rfl rfl)
theorem dX1_gather_70 : decode cX1_gather 70 = .ok (.aload_n 0, 1) := dk_42 (dk_at dksX1_gather_2 22 rfl rfl)
theorem dX1_gather_71 : decode cX1_gather 71 = .ok (.getfield 111, 3) := dk_180 0 111 (dk_at dksX1_gather_3 0 rfl rfl)
theorem dX1_gather_74 : decode cX1_gather 74 = .ok (.aload_n 2, 1) := dk_44 (dk_at dksX1_gather_3 3 rfl rfl)
theorem dX1_gather_75 : decode cX1_gather 75 = .ok (.getfield 164, 3) := dk_180 0 164 (dk_at dksX1_gather_3 4 rfl rfl)
theorem dX1_gather_78 : decode cX1_gather 78 = .ok (.aload_n 2, 1) := dk_44 (dk_at dksX1_gather_3 7 rfl rfl)
theorem dX1_gather_79 : decode cX1_gather 79 = .ok (.getfield 167, 3) := dk_180 0 167 (dk_at dksX1_gather_3 8 rfl rfl)
theorem dX1_gather_82 : decode cX1_gather 82 = .ok (.aload_n 2, 1) := dk_44 (dk_at dksX1_gather_3 11 rfl rfl)
theorem dX1_gather_83 : decode cX1_gather 83 = .ok (.getfield 146, 3) := dk_180 0 146 (dk_at dksX1_gather_3 12 rfl rfl)
theorem dX1_gather_86 : decode cX1_gather 86 = .ok (.aload_n 0, 1) := dk_42 (dk_at dksX1_gather_3 15 rfl rfl)
theorem dX1_gather_87 : decode cX1_gather 87 = .ok (.getfield 111, 3) := dk_180 0 111 (dk_at dksX1_gather_3 16 rfl rfl)
theorem dX1_gather_90 : decode cX1_gather 90 = .ok (.getfield 170, 3) := dk_180 0 170 (dk_at dksX1_gather_3 19 rfl rfl)
theorem dX1_gather_93 : decode cX1_gather 93 = .ok (.invokevirtual 173, 3) := dk_182 0 173 (dk_at dksX1_gather_4 0 rfl rfl)
theorem dX1_gather_96 : decode cX1_gather 96 = .ok (.aload_n 0, 1) := dk_42 (dk_at dksX1_gather_4 3 rfl rfl)
theorem dX1_gather_97 : decode cX1_gather 97 = .ok (.getfield 70, 3) := dk_180 0 70 (dk_at dksX1_gather_4 4 rfl rfl)
theorem dX1_gather_100 : decode cX1_gather 100 = .ok (.iload_n 3, 1) := dk_29 (dk_at dksX1_gather_4 7 rfl rfl)
theorem dX1_gather_101 : decode cX1_gather 101 = .ok (.aload_n 0, 1) := dk_42 (dk_at dksX1_gather_4 8 rfl rfl)
theorem dX1_gather_102 : decode cX1_gather 102 = .ok (.getfield 111, 3) := dk_180 0 111 (dk_at dksX1_gather_4 9 rfl rfl)
theorem dX1_gather_105 : decode cX1_gather 105 = .ok (.getfield 170, 3) := dk_180 0 170 (dk_at dksX1_gather_4 12 rfl rfl)
theorem dX1_gather_108 : decode cX1_gather 108 = .ok (.bipush 8, 2) := dk_16 8 (dk_at dksX1_gather_4 15 rfl rfl)
theorem dX1_gather_110 : decode cX1_gather 110 = .ok (.invokevirtual 210, 3) := dk_182 0 210 (dk_at dksX1_gather_4 17 rfl rfl)
theorem dX1_gather_113 : decode cX1_gather 113 = .ok (.invokestatic 335, 3) := dk_184 1 79 (dk_at dksX1_gather_4 20 rfl rfl)
theorem dX1_gather_116 : decode cX1_gather 116 = .ok (.lastore, 1) := dk_80 (dk_at dksX1_gather_4 23 rfl rfl)
theorem dX1_gather_117 : decode cX1_gather 117 = .ok (.aload_n 0, 1) := dk_42 (dk_at dksX1_gather_5 0 rfl rfl)
theorem dX1_gather_118 : decode cX1_gather 118 = .ok (.getfield 74, 3) := dk_180 0 74 (dk_at dksX1_gather_5 1 rfl rfl)
theorem dX1_gather_121 : decode cX1_gather 121 = .ok (.iload_n 3, 1) := dk_29 (dk_at dksX1_gather_5 4 rfl rfl)
theorem dX1_gather_122 : decode cX1_gather 122 = .ok (.iinc 3 1, 3) := dk_132 3 1 (dk_at dksX1_gather_5 5 rfl rfl)
theorem dX1_gather_125 : decode cX1_gather 125 = .ok (.aload_n 0, 1) := dk_42 (dk_at dksX1_gather_5 8 rfl rfl)
theorem dX1_gather_126 : decode cX1_gather 126 = .ok (.getfield 111, 3) := dk_180 0 111 (dk_at dksX1_gather_5 9 rfl rfl)
theorem dX1_gather_129 : decode cX1_gather 129 = .ok (.getfield 170, 3) := dk_180 0 170 (dk_at dksX1_gather_5 12 rfl rfl)
theorem dX1_gather_132 : decode cX1_gather 132 = .ok (.iconst 4, 1) := dk_7 (dk_at dksX1_gather_5 15 rfl rfl)
theorem dX1_gather_133 : decode cX1_gather 133 = .ok (.invokevirtual 178, 3) := dk_182 0 178 (dk_at dksX1_gather_5 16 rfl rfl)
theorem dX1_gather_136 : decode cX1_gather 136 = .ok (.iastore, 1) := dk_79 (dk_at dksX1_gather_5 19 rfl rfl)
theorem dX1_gather_137 : decode cX1_gather 137 = .ok (.aload_n 2, 1) := dk_44 (dk_at dksX1_gather_5 20 rfl rfl)
theorem dX1_gather_138 : decode cX1_gather 138 = .ok (.invokevirtual 153, 3) := dk_182 0 153 (dk_at dksX1_gather_5 21 rfl rfl)
theorem dX1_gather_141 : decode cX1_gather 141 = .ok (.istore 4, 2) := dk_54 4 (dk_at dksX1_gather_6 0 rfl rfl)
theorem dX1_gather_143 : decode cX1_gather 143 = .ok (.goto (-113), 3) := dk_167 255 143 (dk_at dksX1_gather_6 2 rfl rfl)
theorem dX1_gather_146 : decode cX1_gather 146 = .ok (.iload_n 3, 1) := dk_29 (dk_at dksX1_gather_6 5 rfl rfl)
theorem dX1_gather_147 : decode cX1_gather 147 = .ok (.ireturn, 1) := dk_172 (dk_at dksX1_gather_6 6 rfl rfl)
abbrev cX1_after : ByteArray := prog_1_method_39_code
def yX1_after : MethodName := ⟨RX1, "after", "(IJ)J"⟩
def dkwX1_after_1 : List UInt8 := [153, 0, 14, 32, 184, 1, 18, 154, 0, 7, 9, 167, 0, 9, 42, 27, 32, 182, 1, 84, 173]
abbrev dktX1_after_1 : List UInt8 := dkwX1_after_1 ++ []
def dkwX1_after_0 : List UInt8 := [42, 180, 0, 28, 153, 0, 28, 42, 27, 42, 180, 0, 54, 182, 1, 25, 155, 0, 16, 32, 9, 148]
abbrev dktX1_after_0 : List UInt8 := dkwX1_after_0 ++ dktX1_after_1
theorem dksX1_after_0 : cX1_after.data.toList.drop 0 = dktX1_after_0 := by decide +kernel
theorem dksX1_after_1 : cX1_after.data.toList.drop 22 = dktX1_after_1 := dk_seg dksX1_after_0 22 rfl rfl
theorem dX1_after_0 : decode cX1_after 0 = .ok (.aload_n 0, 1) := dk_42 (dk_at dksX1_after_0 0 rfl rfl)
theorem dX1_after_1 : decode cX1_after 1 = .ok (.getfield 28, 3) := dk_180 0 28 (dk_at dksX1_after_0 1 rfl rfl)
theorem dX1_after_4 : decode cX1_after 4 = .ok (.ifCond .eq 28, 3) := dk_153 0 28 (dk_at dksX1_after_0 4 rfl rfl)
theorem dX1_after_7 : decode cX1_after 7 = .ok (.aload_n 0, 1) := dk_42 (dk_at dksX1_after_0 7 rfl rfl)
theorem dX1_after_8 : decode cX1_after 8 = .ok (.iload_n 1, 1) := dk_27 (dk_at dksX1_after_0 8 rfl rfl)
theorem dX1_after_9 : decode cX1_after 9 = .ok (.aload_n 0, 1) := dk_42 (dk_at dksX1_after_0 9 rfl rfl)
theorem dX1_after_10 : decode cX1_after 10 = .ok (.getfield 54, 3) := dk_180 0 54 (dk_at dksX1_after_0 10 rfl rfl)
theorem dX1_after_13 : decode cX1_after 13 = .ok (.invokevirtual 281, 3) := dk_182 1 25 (dk_at dksX1_after_0 13 rfl rfl)
theorem dX1_after_16 : decode cX1_after 16 = .ok (.ifCond .lt 16, 3) := dk_155 0 16 (dk_at dksX1_after_0 16 rfl rfl)
theorem dX1_after_19 : decode cX1_after 19 = .ok (.lload_n 2, 1) := dk_32 (dk_at dksX1_after_0 19 rfl rfl)
theorem dX1_after_20 : decode cX1_after 20 = .ok (.lconst 0, 1) := dk_9 (dk_at dksX1_after_0 20 rfl rfl)
theorem dX1_after_21 : decode cX1_after 21 = .ok (.lcmp, 1) := dk_148 (dk_at dksX1_after_0 21 rfl rfl)
theorem dX1_after_22 : decode cX1_after 22 = .ok (.ifCond .eq 14, 3) := dk_153 0 14 (dk_at dksX1_after_1 0 rfl rfl)
theorem dX1_after_25 : decode cX1_after 25 = .ok (.lload_n 2, 1) := dk_32 (dk_at dksX1_after_1 3 rfl rfl)
theorem dX1_after_26 : decode cX1_after 26 = .ok (.invokestatic 274, 3) := dk_184 1 18 (dk_at dksX1_after_1 4 rfl rfl)
theorem dX1_after_29 : decode cX1_after 29 = .ok (.ifCond .ne 7, 3) := dk_154 0 7 (dk_at dksX1_after_1 7 rfl rfl)
theorem dX1_after_32 : decode cX1_after 32 = .ok (.lconst 0, 1) := dk_9 (dk_at dksX1_after_1 10 rfl rfl)
theorem dX1_after_33 : decode cX1_after 33 = .ok (.goto 9, 3) := dk_167 0 9 (dk_at dksX1_after_1 11 rfl rfl)
theorem dX1_after_36 : decode cX1_after 36 = .ok (.aload_n 0, 1) := dk_42 (dk_at dksX1_after_1 14 rfl rfl)
theorem dX1_after_37 : decode cX1_after 37 = .ok (.iload_n 1, 1) := dk_27 (dk_at dksX1_after_1 15 rfl rfl)
theorem dX1_after_38 : decode cX1_after 38 = .ok (.lload_n 2, 1) := dk_32 (dk_at dksX1_after_1 16 rfl rfl)
theorem dX1_after_39 : decode cX1_after 39 = .ok (.invokevirtual 340, 3) := dk_182 1 84 (dk_at dksX1_after_1 17 rfl rfl)
theorem dX1_after_42 : decode cX1_after 42 = .ok (.lreturn, 1) := dk_173 (dk_at dksX1_after_1 20 rfl rfl)
abbrev cX1_following : ByteArray := prog_1_method_40_code
def yX1_following : MethodName := ⟨RX1, "following", "(IJ)J"⟩
def dkwX1_following_6 : List UInt8 := [182, 0, 153, 54, 11, 167, 255, 144, 22, 9, 184, 1, 79, 173]
abbrev dktX1_following_6 : List UInt8 := dkwX1_following_6 ++ []
def dkwX1_following_5 : List UInt8 := [22, 9, 9, 148, 153, 0, 13, 22, 12, 22, 9, 184, 1, 73, 156, 0, 7, 22, 12, 55, 9, 25, 4]
abbrev dktX1_following_5 : List UInt8 := dkwX1_following_5 ++ dktX1_following_6
def dkwX1_following_4 : List UInt8 := [55, 12, 22, 12, 22, 7, 184, 1, 73, 158, 0, 7, 4, 167, 0, 4, 3, 54, 14, 21, 14, 153, 0, 24]
abbrev dktX1_following_4 : List UInt8 := dkwX1_following_4 ++ dktX1_following_5
def dkwX1_following_3 : List UInt8 := [180, 0, 111, 180, 0, 170, 182, 0, 173, 42, 180, 0, 111, 180, 0, 170, 16, 8, 182, 0, 210, 184, 1, 79]
abbrev dktX1_following_3 : List UInt8 := dkwX1_following_3 ++ dktX1_following_4
def dkwX1_following_2 : List UInt8 := [148, 154, 0, 102, 42, 180, 0, 111, 25, 4, 180, 0, 164, 25, 4, 180, 0, 167, 25, 4, 180, 0, 146, 42]
abbrev dktX1_following_2 : List UInt8 := dkwX1_following_2 ++ dktX1_following_3
def dkwX1_following_1 : List UInt8 := [55, 9, 25, 4, 22, 5, 9, 182, 0, 140, 54, 11, 21, 11, 153, 0, 113, 25, 4, 180, 0, 149, 22, 5]
abbrev dktX1_following_1 : List UInt8 := dkwX1_following_1 ++ dktX1_following_2
def dkwX1_following_0 : List UInt8 := [42, 180, 0, 111, 180, 0, 136, 58, 4, 27, 5, 184, 0, 157, 55, 5, 32, 184, 1, 79, 55, 7, 9]
abbrev dktX1_following_0 : List UInt8 := dkwX1_following_0 ++ dktX1_following_1
theorem dksX1_following_0 : cX1_following.data.toList.drop 0 = dktX1_following_0 := by decide +kernel
theorem dksX1_following_1 : cX1_following.data.toList.drop 23 = dktX1_following_1 := dk_seg dksX1_following_0 23 rfl rfl
theorem dksX1_following_2 : cX1_following.data.toList.drop 47 = dktX1_following_2 := dk_seg dksX1_following_1 24 rfl rfl
theorem dksX1_following_3 : cX1_following.data.toList.drop 71 = dktX1_following_3 := dk_seg dksX1_following_2 24 rfl rfl
theorem dksX1_following_4 : cX1_following.data.toList.drop 95 = dktX1_following_4 := dk_seg dksX1_following_3 24 rfl rfl
theorem dksX1_following_5 : cX1_following.data.toList.drop 119 = dktX1_following_5 := dk_seg dksX1_following_4 24 rfl rfl
theorem dksX1_following_6 : cX1_following.data.toList.drop 142 = dktX1_following_6 := dk_seg dksX1_following_5 23 rfl rfl
theorem dX1_following_0 : decode cX1_following 0 = .ok (.aload_n 0, 1) := dk_42 (dk_at dksX1_following_0 0 rfl rfl)
theorem dX1_following_1 : decode cX1_following 1 = .ok (.getfield 111, 3) := dk_180 0 111 (dk_at dksX1_following_0 1 rfl rfl)
theorem dX1_following_4 : decode cX1_following 4 = .ok (.getfield 136, 3) := dk_180 0 136 (dk_at dksX1_following_0 4 rfl rfl)
theorem dX1_following_7 : decode cX1_following 7 = .ok (.astore 4, 2) := dk_58 4 (dk_at dksX1_following_0 7 rfl rfl)
theorem dX1_following_9 : decode cX1_following 9 = .ok (.iload_n 1, 1) := dk_27 (dk_at dksX1_following_0 9 rfl rfl)
theorem dX1_following_10 : decode cX1_following 10 = .ok (.iconst 2, 1) := dk_5 (dk_at dksX1_following_0 10 rfl rfl)
theorem dX1_following_11 : decode cX1_following 11 = .ok (.invokestatic 157, 3) := dk_184 0 157 (dk_at dksX1_following_0 11 rfl rfl)
theorem dX1_following_14 : decode cX1_following 14 = .ok (.lstore 5, 2) := dk_55 5 (dk_at dksX1_following_0 14 rfl rfl)
theorem dX1_following_16 : decode cX1_following 16 = .ok (.lload_n 2, 1) := dk_32 (dk_at dksX1_following_0 16 rfl rfl)
theorem dX1_following_17 : decode cX1_following 17 = .ok (.invokestatic 335, 3) := dk_184 1 79 (dk_at dksX1_following_0 17 rfl rfl)
theorem dX1_following_20 : decode cX1_following 20 = .ok (.lstore 7, 2) := dk_55 7 (dk_at dksX1_following_0 20 rfl rfl)
theorem dX1_following_22 : decode cX1_following 22 = .ok (.lconst 0, 1) := dk_9 (dk_at dksX1_following_0 22 rfl rfl)
theorem dX1_following_23 : decode cX1_following 23 = .ok (.lstore 9, 2) := dk_55 9 (dk_at dksX1_following_1 0 rfl rfl)
theorem dX1_following_25 : decode cX1_following 25 = .ok (.aload 4, 2) := dk_25 4 (dk_at dksX1_following_1 2 rfl rfl)
theorem dX1_following_27 : decode cX1_following 27 = .ok (.lload 5, 2) := dk_22 5 (dk_at dksX1_following_1 4 rfl rfl)
theorem dX1_following_29 : decode cX1_following 29 = .ok (.lconst 0, 1) := dk_9 (dk_at dksX1_following_1 6 rfl rfl)
theorem dX1_following_30 : decode cX1_following 30 = .ok (.invokevirtual 140, 3) := dk_182 0 140 (dk_at dksX1_following_1 7 rfl rfl)
theorem dX1_following_33 : decode cX1_following 33 = .ok (.istore 11, 2) := dk_54 11 (dk_at dksX1_following_1 10 rfl rfl)
theorem dX1_following_35 : decode cX1_following 35 = .ok (.iload 11, 2) := dk_21 11 (dk_at dksX1_following_1 12 rfl rfl)
theorem dX1_following_37 : decode cX1_following 37 = .ok (.ifCond .eq 113, 3) := dk_153 0 113 (dk_at dksX1_following_1 14 rfl rfl)
theorem dX1_following_40 : decode cX1_following 40 = .ok (.aload 4, 2) := dk_25 4 (dk_at dksX1_following_1 17 rfl rfl)
theorem dX1_following_42 : decode cX1_following 42 = .ok (.getfield 149, 3) := dk_180 0 149 (dk_at dksX1_following_1 19 rfl rfl)
theorem dX1_following_45 : decode cX1_following 45 = .ok (.lload 5, 2) := dk_22 5 (dk_at dksX1_following_1 22 rfl rfl)
theorem dX1_following_47 : decode cX1_following 47 = .ok (.lcmp, 1) := dk_148 (dk_at dksX1_following_2 0 rfl rfl)
theorem dX1_following_48 : decode cX1_following 48 = .ok (.ifCond .ne 102, 3) := dk_154 0 102 (dk_at dksX1_following_2 1 rfl rfl)
theorem dX1_following_51 : decode cX1_following 51 = .ok (.aload_n 0, 1) := dk_42 (dk_at dksX1_following_2 4 rfl rfl)
theorem dX1_following_52 : decode cX1_following 52 = .ok (.getfield 111, 3) := dk_180 0 111 (dk_at dksX1_following_2 5 rfl rfl)
theorem dX1_following_55 : decode cX1_following 55 = .ok (.aload 4, 2) := dk_25 4 (dk_at dksX1_following_2 8 rfl rfl)
theorem dX1_following_57 : decode cX1_following 57 = .ok (.getfield 164, 3) := dk_180 0 164 (dk_at dksX1_following_2 10 rfl rfl)
theorem dX1_following_60 : decode cX1_following 60 = .ok (.aload 4, 2) := dk_25 4 (dk_at dksX1_following_2 13 rfl rfl)
theorem dX1_following_62 : decode cX1_following 62 = .ok (.getfield 167, 3) := dk_180 0 167 (dk_at dksX1_following_2 15 rfl rfl)
theorem dX1_following_65 : decode cX1_following 65 = .ok (.aload 4, 2) := dk_25 4 (dk_at dksX1_following_2 18 rfl rfl)
theorem dX1_following_67 : decode cX1_following 67 = .ok (.getfield 146, 3) := dk_180 0 146 (dk_at dksX1_following_2 20 rfl rfl)
theorem dX1_following_70 : decode cX1_following 70 = .ok (.aload_n 0, 1) := dk_42 (dk_at dksX1_following_2 23 rfl rfl)
theorem dX1_following_71 : decode cX1_following 71 = .ok (.getfield 111, 3) := dk_180 0 111 (dk_at dksX1_following_3 0 rfl rfl)
theorem dX1_following_74 : decode cX1_following 74 = .ok (.getfield 170, 3) := dk_180 0 170 (dk_at dksX1_following_3 3 rfl rfl)
theorem dX1_following_77 : decode cX1_following 77 = .ok (.invokevirtual 173, 3) := dk_182 0 173 (dk_at dksX1_following_3 6 rfl rfl)
theorem dX1_following_80 : decode cX1_following 80 = .ok (.aload_n 0, 1) := dk_42 (dk_at dksX1_following_3 9 rfl rfl)
theorem dX1_following_81 : decode cX1_following 81 = .ok (.getfield 111, 3) := dk_180 0 111 (dk_at dksX1_following_3 10 rfl rfl)
theorem dX1_following_84 : decode cX1_following 84 = .ok (.getfield 170, 3) := dk_180 0 170 (dk_at dksX1_following_3 13 rfl rfl)
theorem dX1_following_87 : decode cX1_following 87 = .ok (.bipush 8, 2) := dk_16 8 (dk_at dksX1_following_3 16 rfl rfl)
theorem dX1_following_89 : decode cX1_following 89 = .ok (.invokevirtual 210, 3) := dk_182 0 210 (dk_at dksX1_following_3 18 rfl rfl)
theorem dX1_following_92 : decode cX1_following 92 = .ok (.invokestatic 335, 3) := dk_184 1 79 (dk_at dksX1_following_3 21 rfl rfl)
theorem dX1_following_95 : decode cX1_following 95 = .ok (.lstore 12, 2) := dk_55 12 (dk_at dksX1_following_4 0 rfl rfl)
theorem dX1_following_97 : decode cX1_following 97 = .ok (.lload 12, 2) := dk_22 12 (dk_at dksX1_following_4 2 rfl rfl)
theorem dX1_following_99 : decode cX1_following 99 = .ok (.lload 7, 2) := dk_22 7 (dk_at dksX1_following_4 4 rfl rfl)
theorem dX1_following_101 : decode cX1_following 101 = .ok (.invokestatic 329, 3) := dk_184 1 73 (dk_at dksX1_following_4 6 rfl rfl)
theorem dX1_following_104 : decode cX1_following 104 = .ok (.ifCond .le 7, 3) := dk_158 0 7 (dk_at dksX1_following_4 9 rfl rfl)
theorem dX1_following_107 : decode cX1_following 107 = .ok (.iconst 1, 1) := dk_4 (dk_at dksX1_following_4 12 rfl rfl)
theorem dX1_following_108 : decode cX1_following 108 = .ok (.goto 4, 3) := dk_167 0 4 (dk_at dksX1_following_4 13 rfl rfl)
theorem dX1_following_111 : decode cX1_following 111 = .ok (.iconst 0, 1) := dk_3 (dk_at dksX1_following_4 16 rfl rfl)
theorem dX1_following_112 : decode cX1_following 112 = .ok (.istore 14, 2) := dk_54 14 (dk_at dksX1_following_4 17 rfl rfl)
theorem dX1_following_114 : decode cX1_following 114 = .ok (.iload 14, 2) := dk_21 14 (dk_at dksX1_following_4 19 rfl rfl)
theorem dX1_following_116 : decode cX1_following 116 = .ok (.ifCond .eq 24, 3) := dk_153 0 24 (dk_at dksX1_following_4 21 rfl rfl)
theorem dX1_following_119 : decode cX1_following 119 = .ok (.lload 9, 2) := dk_22 9 (dk_at dksX1_following_5 0 rfl rfl)
theorem dX1_following_121 : decode cX1_following 121 = .ok (.lconst 0, 1) := dk_9 (dk_at dksX1_following_5 2 rfl rfl)
theorem dX1_following_122 : decode cX1_following 122 = .ok (.lcmp, 1) := dk_148 (dk_at dksX1_following_5 3 rfl rfl)
theorem dX1_following_123 : decode cX1_following 123 = .ok (.ifCond .eq 13, 3) := dk_153 0 13 (dk_at dksX1_following_5 4 rfl rfl)
theorem dX1_following_126 : decode cX1_following 126 = .ok (.lload 12, 2) := dk_22 12 (dk_at dksX1_following_5 7 rfl rfl)
theorem dX1_following_128 : decode cX1_following 128 = .ok (.lload 9, 2) := dk_22 9 (dk_at dksX1_following_5 9 rfl rfl)
theorem dX1_following_130 : decode cX1_following 130 = .ok (.invokestatic 329, 3) := dk_184 1 73 (dk_at dksX1_following_5 11 rfl rfl)
theorem dX1_following_133 : decode cX1_following 133 = .ok (.ifCond .ge 7, 3) := dk_156 0 7 (dk_at dksX1_following_5 14 rfl rfl)
theorem dX1_following_136 : decode cX1_following 136 = .ok (.lload 12, 2) := dk_22 12 (dk_at dksX1_following_5 17 rfl rfl)
theorem dX1_following_138 : decode cX1_following 138 = .ok (.lstore 9, 2) := dk_55 9 (dk_at dksX1_following_5 19 rfl rfl)
theorem dX1_following_140 : decode cX1_following 140 = .ok (.aload 4, 2) := dk_25 4 (dk_at dksX1_following_5 21 rfl rfl)
theorem dX1_following_142 : decode cX1_following 142 = .ok (.invokevirtual 153, 3) := dk_182 0 153 (dk_at dksX1_following_6 0 rfl rfl)
theorem dX1_following_145 : decode cX1_following 145 = .ok (.istore 11, 2) := dk_54 11 (dk_at dksX1_following_6 3 rfl rfl)
theorem dX1_following_147 : decode cX1_following 147 = .ok (.goto (-112), 3) := dk_167 255 144 (dk_at dksX1_following_6 5 rfl rfl)
theorem dX1_following_150 : decode cX1_following 150 = .ok (.lload 9, 2) := dk_22 9 (dk_at dksX1_following_6 8 rfl rfl)
theorem dX1_following_152 : decode cX1_following 152 = .ok (.invokestatic 335, 3) := dk_184 1 79 (dk_at dksX1_following_6 10 rfl rfl)
theorem dX1_following_155 : decode cX1_following 155 = .ok (.lreturn, 1) := dk_173 (dk_at dksX1_following_6 13 rfl rfl)
abbrev cX1_feed : ByteArray := prog_1_method_41_code
def yX1_feed : MethodName := ⟨RX1, "feed", "(JI)I"⟩
def dkwX1_feed_4 : List UInt8 := [31, 16, 8, 21, 4, 104, 125, 136, 145, 84, 132, 4, 1, 167, 255, 222, 42, 180, 1, 22, 172]
abbrev dktX1_feed_4 : List UInt8 := dkwX1_feed_4 ++ []
def dkwX1_feed_3 : List UInt8 := [3, 54, 4, 21, 4, 29, 162, 0, 34, 42, 180, 0, 83, 42, 89, 180, 1, 22, 90, 4, 96, 181, 1, 22]
abbrev dktX1_feed_3 : List UInt8 := dkwX1_feed_3 ++ dktX1_feed_4
def dkwX1_feed_2 : List UInt8 := [16, 253, 172, 132, 4, 1, 167, 255, 228, 42, 180, 1, 22, 29, 96, 17, 0, 200, 164, 0, 6, 16, 246, 172]
abbrev dktX1_feed_2 : List UInt8 := dkwX1_feed_2 ++ dktX1_feed_3
def dkwX1_feed_1 : List UInt8 := [54, 4, 21, 4, 29, 162, 0, 28, 31, 16, 8, 21, 4, 104, 125, 20, 0, 195, 127, 9, 148, 154, 0, 6]
abbrev dktX1_feed_1 : List UInt8 := dkwX1_feed_1 ++ dktX1_feed_2
def dkwX1_feed_0 : List UInt8 := [42, 180, 0, 28, 154, 0, 6, 16, 254, 172, 29, 4, 16, 8, 184, 0, 89, 154, 0, 6, 16, 253, 172, 3]
abbrev dktX1_feed_0 : List UInt8 := dkwX1_feed_0 ++ dktX1_feed_1
theorem dksX1_feed_0 : cX1_feed.data.toList.drop 0 = dktX1_feed_0 := by decide +kernel
theorem dksX1_feed_1 : cX1_feed.data.toList.drop 24 = dktX1_feed_1 := dk_seg dksX1_feed_0 24 rfl rfl
theorem dksX1_feed_2 : cX1_feed.data.toList.drop 48 = dktX1_feed_2 := dk_seg dksX1_feed_1 24 rfl rfl
theorem dksX1_feed_3 : cX1_feed.data.toList.drop 72 = dktX1_feed_3 := dk_seg dksX1_feed_2 24 rfl rfl
theorem dksX1_feed_4 : cX1_feed.data.toList.drop 96 = dktX1_feed_4 := dk_seg dksX1_feed_3 24 rfl rfl
theorem dX1_feed_0 : decode cX1_feed 0 = .ok (.aload_n 0, 1) := dk_42 (dk_at dksX1_feed_0 0 rfl rfl)
theorem dX1_feed_1 : decode cX1_feed 1 = .ok (.getfield 28, 3) := dk_180 0 28 (dk_at dksX1_feed_0 1 rfl rfl)
theorem dX1_feed_4 : decode cX1_feed 4 = .ok (.ifCond .ne 6, 3) := dk_154 0 6 (dk_at dksX1_feed_0 4 rfl rfl)
theorem dX1_feed_7 : decode cX1_feed 7 = .ok (.bipush (-2), 2) := dk_16 254 (dk_at dksX1_feed_0 7 rfl rfl)
theorem dX1_feed_9 : decode cX1_feed 9 = .ok (.ireturn, 1) := dk_172 (dk_at dksX1_feed_0 9 rfl rfl)
theorem dX1_feed_10 : decode cX1_feed 10 = .ok (.iload_n 3, 1) := dk_29 (dk_at dksX1_feed_0 10 rfl rfl)
theorem dX1_feed_11 : decode cX1_feed 11 = .ok (.iconst 1, 1) := dk_4 (dk_at dksX1_feed_0 11 rfl rfl)
theorem dX1_feed_12 : decode cX1_feed 12 = .ok (.bipush 8, 2) := dk_16 8 (dk_at dksX1_feed_0 12 rfl rfl)
theorem dX1_feed_14 : decode cX1_feed 14 = .ok (.invokestatic 89, 3) := dk_184 0 89 (dk_at dksX1_feed_0 14 rfl rfl)
theorem dX1_feed_17 : decode cX1_feed 17 = .ok (.ifCond .ne 6, 3) := dk_154 0 6 (dk_at dksX1_feed_0 17 rfl rfl)
theorem dX1_feed_20 : decode cX1_feed 20 = .ok (.bipush (-3), 2) := dk_16 253 (dk_at dksX1_feed_0 20 rfl rfl)
theorem dX1_feed_22 : decode cX1_feed 22 = .ok (.ireturn, 1) := dk_172 (dk_at dksX1_feed_0 22 rfl rfl)
theorem dX1_feed_23 : decode cX1_feed 23 = .ok (.iconst 0, 1) := dk_3 (dk_at dksX1_feed_0 23 rfl rfl)
theorem dX1_feed_24 : decode cX1_feed 24 = .ok (.istore 4, 2) := dk_54 4 (dk_at dksX1_feed_1 0 rfl rfl)
theorem dX1_feed_26 : decode cX1_feed 26 = .ok (.iload 4, 2) := dk_21 4 (dk_at dksX1_feed_1 2 rfl rfl)
theorem dX1_feed_28 : decode cX1_feed 28 = .ok (.iload_n 3, 1) := dk_29 (dk_at dksX1_feed_1 4 rfl rfl)
theorem dX1_feed_29 : decode cX1_feed 29 = .ok (.if_icmp .ge 28, 3) := dk_162 0 28 (dk_at dksX1_feed_1 5 rfl rfl)
theorem dX1_feed_32 : decode cX1_feed 32 = .ok (.lload_n 1, 1) := dk_31 (dk_at dksX1_feed_1 8 rfl rfl)
theorem dX1_feed_33 : decode cX1_feed 33 = .ok (.bipush 8, 2) := dk_16 8 (dk_at dksX1_feed_1 9 rfl rfl)
theorem dX1_feed_35 : decode cX1_feed 35 = .ok (.iload 4, 2) := dk_21 4 (dk_at dksX1_feed_1 11 rfl rfl)
theorem dX1_feed_37 : decode cX1_feed 37 = .ok (.imul, 1) := dk_104 (dk_at dksX1_feed_1 13 rfl rfl)
theorem dX1_feed_38 : decode cX1_feed 38 = .ok (.lushr, 1) := dk_125 (dk_at dksX1_feed_1 14 rfl rfl)
theorem dX1_feed_39 : decode cX1_feed 39 = .ok (.ldc2_w 195, 3) := dk_20 0 195 (dk_at dksX1_feed_1 15 rfl rfl)
theorem dX1_feed_42 : decode cX1_feed 42 = .ok (.land, 1) := dk_127 (dk_at dksX1_feed_1 18 rfl rfl)
theorem dX1_feed_43 : decode cX1_feed 43 = .ok (.lconst 0, 1) := dk_9 (dk_at dksX1_feed_1 19 rfl rfl)
theorem dX1_feed_44 : decode cX1_feed 44 = .ok (.lcmp, 1) := dk_148 (dk_at dksX1_feed_1 20 rfl rfl)
theorem dX1_feed_45 : decode cX1_feed 45 = .ok (.ifCond .ne 6, 3) := dk_154 0 6 (dk_at dksX1_feed_1 21 rfl rfl)
theorem dX1_feed_48 : decode cX1_feed 48 = .ok (.bipush (-3), 2) := dk_16 253 (dk_at dksX1_feed_2 0 rfl rfl)
theorem dX1_feed_50 : decode cX1_feed 50 = .ok (.ireturn, 1) := dk_172 (dk_at dksX1_feed_2 2 rfl rfl)
theorem dX1_feed_51 : decode cX1_feed 51 = .ok (.iinc 4 1, 3) := dk_132 4 1 (dk_at dksX1_feed_2 3 rfl rfl)
theorem dX1_feed_54 : decode cX1_feed 54 = .ok (.goto (-28), 3) := dk_167 255 228 (dk_at dksX1_feed_2 6 rfl rfl)
theorem dX1_feed_57 : decode cX1_feed 57 = .ok (.aload_n 0, 1) := dk_42 (dk_at dksX1_feed_2 9 rfl rfl)
theorem dX1_feed_58 : decode cX1_feed 58 = .ok (.getfield 278, 3) := dk_180 1 22 (dk_at dksX1_feed_2 10 rfl rfl)
theorem dX1_feed_61 : decode cX1_feed 61 = .ok (.iload_n 3, 1) := dk_29 (dk_at dksX1_feed_2 13 rfl rfl)
theorem dX1_feed_62 : decode cX1_feed 62 = .ok (.iadd, 1) := dk_96 (dk_at dksX1_feed_2 14 rfl rfl)
theorem dX1_feed_63 : decode cX1_feed 63 = .ok (.sipush 200, 3) := dk_17 0 200 (dk_at dksX1_feed_2 15 rfl rfl)
theorem dX1_feed_66 : decode cX1_feed 66 = .ok (.if_icmp .le 6, 3) := dk_164 0 6 (dk_at dksX1_feed_2 18 rfl rfl)
theorem dX1_feed_69 : decode cX1_feed 69 = .ok (.bipush (-10), 2) := dk_16 246 (dk_at dksX1_feed_2 21 rfl rfl)
theorem dX1_feed_71 : decode cX1_feed 71 = .ok (.ireturn, 1) := dk_172 (dk_at dksX1_feed_2 23 rfl rfl)
theorem dX1_feed_72 : decode cX1_feed 72 = .ok (.iconst 0, 1) := dk_3 (dk_at dksX1_feed_3 0 rfl rfl)
theorem dX1_feed_73 : decode cX1_feed 73 = .ok (.istore 4, 2) := dk_54 4 (dk_at dksX1_feed_3 1 rfl rfl)
theorem dX1_feed_75 : decode cX1_feed 75 = .ok (.iload 4, 2) := dk_21 4 (dk_at dksX1_feed_3 3 rfl rfl)
theorem dX1_feed_77 : decode cX1_feed 77 = .ok (.iload_n 3, 1) := dk_29 (dk_at dksX1_feed_3 5 rfl rfl)
theorem dX1_feed_78 : decode cX1_feed 78 = .ok (.if_icmp .ge 34, 3) := dk_162 0 34 (dk_at dksX1_feed_3 6 rfl rfl)
theorem dX1_feed_81 : decode cX1_feed 81 = .ok (.aload_n 0, 1) := dk_42 (dk_at dksX1_feed_3 9 rfl rfl)
theorem dX1_feed_82 : decode cX1_feed 82 = .ok (.getfield 83, 3) := dk_180 0 83 (dk_at dksX1_feed_3 10 rfl rfl)
theorem dX1_feed_85 : decode cX1_feed 85 = .ok (.aload_n 0, 1) := dk_42 (dk_at dksX1_feed_3 13 rfl rfl)
theorem dX1_feed_86 : decode cX1_feed 86 = .ok (.dup, 1) := dk_89 (dk_at dksX1_feed_3 14 rfl rfl)
theorem dX1_feed_87 : decode cX1_feed 87 = .ok (.getfield 278, 3) := dk_180 1 22 (dk_at dksX1_feed_3 15 rfl rfl)
theorem dX1_feed_90 : decode cX1_feed 90 = .ok (.dup_x1, 1) := dk_90 (dk_at dksX1_feed_3 18 rfl rfl)
theorem dX1_feed_91 : decode cX1_feed 91 = .ok (.iconst 1, 1) := dk_4 (dk_at dksX1_feed_3 19 rfl rfl)
theorem dX1_feed_92 : decode cX1_feed 92 = .ok (.iadd, 1) := dk_96 (dk_at dksX1_feed_3 20 rfl rfl)
theorem dX1_feed_93 : decode cX1_feed 93 = .ok (.putfield 278, 3) := dk_181 1 22 (dk_at dksX1_feed_3 21 rfl rfl)
theorem dX1_feed_96 : decode cX1_feed 96 = .ok (.lload_n 1, 1) := dk_31 (dk_at dksX1_feed_4 0 rfl rfl)
theorem dX1_feed_97 : decode cX1_feed 97 = .ok (.bipush 8, 2) := dk_16 8 (dk_at dksX1_feed_4 1 rfl rfl)
theorem dX1_feed_99 : decode cX1_feed 99 = .ok (.iload 4, 2) := dk_21 4 (dk_at dksX1_feed_4 3 rfl rfl)
theorem dX1_feed_101 : decode cX1_feed 101 = .ok (.imul, 1) := dk_104 (dk_at dksX1_feed_4 5 rfl rfl)
theorem dX1_feed_102 : decode cX1_feed 102 = .ok (.lushr, 1) := dk_125 (dk_at dksX1_feed_4 6 rfl rfl)
theorem dX1_feed_103 : decode cX1_feed 103 = .ok (.l2i, 1) := dk_136 (dk_at dksX1_feed_4 7 rfl rfl)
theorem dX1_feed_104 : decode cX1_feed 104 = .ok (.i2b, 1) := dk_145 (dk_at dksX1_feed_4 8 rfl rfl)
theorem dX1_feed_105 : decode cX1_feed 105 = .ok (.bastore, 1) := dk_84 (dk_at dksX1_feed_4 9 rfl rfl)
theorem dX1_feed_106 : decode cX1_feed 106 = .ok (.iinc 4 1, 3) := dk_132 4 1 (dk_at dksX1_feed_4 10 rfl rfl)
theorem dX1_feed_109 : decode cX1_feed 109 = .ok (.goto (-34), 3) := dk_167 255 222 (dk_at dksX1_feed_4 13 rfl rfl)
theorem dX1_feed_112 : decode cX1_feed 112 = .ok (.aload_n 0, 1) := dk_42 (dk_at dksX1_feed_4 16 rfl rfl)
theorem dX1_feed_113 : decode cX1_feed 113 = .ok (.getfield 278, 3) := dk_180 1 22 (dk_at dksX1_feed_4 17 rfl rfl)
theorem dX1_feed_116 : decode cX1_feed 116 = .ok (.ireturn, 1) := dk_172 (dk_at dksX1_feed_4 20 rfl rfl)
abbrev cX1_walk : ByteArray := prog_1_method_45_code
def yX1_walk : MethodName := ⟨RX1, "walk", "(IZ)I"⟩
def dkwX1_walk_15 : List UInt8 := [167, 0, 7, 21, 11, 54, 5, 42, 29, 3, 182, 1, 91, 62, 167, 254, 245, 21, 5, 172]
abbrev dktX1_walk_15 : List UInt8 := dkwX1_walk_15 ++ []
def dkwX1_walk_14 : List UInt8 := [180, 0, 86, 29, 21, 12, 184, 1, 44, 42, 180, 0, 86, 29, 51, 16, 47, 160, 0, 6, 4, 54, 5]
abbrev dktX1_walk_14 : List UInt8 := dkwX1_walk_14 ++ dktX1_walk_15
def dkwX1_walk_13 : List UInt8 := [172, 42, 21, 11, 3, 182, 1, 100, 54, 12, 21, 7, 21, 12, 100, 62, 42, 180, 0, 47, 3, 42]
abbrev dktX1_walk_13 : List UInt8 := dkwX1_walk_13 ++ dktX1_walk_14
def dkwX1_walk_12 : List UInt8 := [21, 7, 3, 182, 1, 91, 17, 4, 0, 162, 0, 63, 132, 6, 1, 21, 6, 16, 8, 164, 0, 6, 16, 247]
abbrev dktX1_walk_12 : List UInt8 := dkwX1_walk_12 ++ dktX1_walk_13
def dkwX1_walk_11 : List UInt8 := [182, 0, 214, 87, 21, 7, 62, 42, 180, 0, 58, 180, 0, 182, 6, 160, 0, 80, 28, 154, 0, 16, 42]
abbrev dktX1_walk_11 : List UInt8 := dkwX1_walk_11 ++ dktX1_walk_12
def dkwX1_walk_10 : List UInt8 := [21, 5, 22, 9, 182, 1, 29, 54, 11, 21, 11, 154, 0, 6, 16, 252, 172, 42, 21, 11, 42, 180, 0, 58]
abbrev dktX1_walk_10 : List UInt8 := dkwX1_walk_10 ++ dktX1_walk_11
def dkwX1_walk_9 : List UInt8 := [180, 0, 86, 29, 21, 11, 96, 51, 133, 20, 0, 195, 127, 129, 55, 9, 132, 11, 255, 167, 255, 226, 42]
abbrev dktX1_walk_9 : List UInt8 := dkwX1_walk_9 ++ dktX1_walk_10
def dkwX1_walk_8 : List UInt8 := [16, 253, 172, 9, 55, 9, 21, 8, 4, 100, 54, 11, 21, 11, 155, 0, 31, 22, 9, 16, 8, 121, 42]
abbrev dktX1_walk_8 : List UInt8 := dkwX1_walk_8 ++ dktX1_walk_9
def dkwX1_walk_7 : List UInt8 := [167, 0, 9, 42, 21, 5, 182, 1, 97, 54, 5, 21, 7, 62, 167, 0, 179, 21, 8, 16, 8, 164, 0, 6]
abbrev dktX1_walk_7 : List UInt8 := dkwX1_walk_7 ++ dktX1_walk_8
def dkwX1_walk_6 : List UInt8 := [154, 0, 14, 42, 29, 21, 8, 5, 182, 1, 94, 153, 0, 28, 21, 8, 4, 160, 0, 8, 21, 5]
abbrev dktX1_walk_6 : List UInt8 := dkwX1_walk_6 ++ dktX1_walk_7
def dkwX1_walk_5 : List UInt8 := [182, 1, 25, 156, 0, 6, 16, 250, 172, 21, 7, 29, 100, 54, 8, 42, 29, 21, 8, 4, 182, 1, 94]
abbrev dktX1_walk_5 : List UInt8 := dkwX1_walk_5 ++ dktX1_walk_6
def dkwX1_walk_4 : List UInt8 := [29, 17, 4, 0, 162, 1, 10, 42, 29, 4, 182, 1, 91, 54, 7, 42, 21, 5, 42, 180, 0, 54]
abbrev dktX1_walk_4 : List UInt8 := dkwX1_walk_4 ++ dktX1_walk_5
def dkwX1_walk_3 : List UInt8 := [29, 51, 16, 47, 160, 0, 7, 4, 167, 0, 4, 27, 54, 5, 3, 54, 6, 42, 29, 3, 182, 1, 91, 62]
abbrev dktX1_walk_3 : List UInt8 := dkwX1_walk_3 ++ dktX1_walk_4
def dkwX1_walk_2 : List UInt8 := [182, 1, 25, 54, 4, 21, 4, 156, 0, 6, 21, 4, 172, 29, 17, 4, 0, 162, 0, 18, 42, 180, 0, 86]
abbrev dktX1_walk_2 : List UInt8 := dkwX1_walk_2 ++ dktX1_walk_3
def dkwX1_walk_1 : List UInt8 := [42, 180, 0, 86, 29, 42, 180, 1, 22, 184, 1, 44, 42, 3, 181, 1, 22, 42, 27, 42, 180, 0, 54]
abbrev dktX1_walk_1 : List UInt8 := dkwX1_walk_1 ++ dktX1_walk_2
def dkwX1_walk_0 : List UInt8 := [42, 180, 0, 28, 154, 0, 6, 16, 254, 172, 17, 4, 0, 42, 180, 1, 22, 100, 62, 42, 180, 0, 83, 3]
abbrev dktX1_walk_0 : List UInt8 := dkwX1_walk_0 ++ dktX1_walk_1
theorem dksX1_walk_0 : cX1_walk.data.toList.drop 0 = dktX1_walk_0 := by decide +kernel
theorem dksX1_walk_1 : cX1_walk.data.toList.drop 24 = dktX1_walk_1 := dk_seg dksX1_walk_0 24 rfl rfl
theorem dksX1_walk_2 : cX1_walk.data.toList.drop 47 = dktX1_walk_2 := dk_seg dksX1_walk_1 23 rfl rfl
theorem dksX1_walk_3 : cX1_walk.data.toList.drop 71 = dktX1_walk_3 := dk_seg dksX1_walk_2 24 rfl rfl
theorem dksX1_walk_4 : cX1_walk.data.toList.drop 95 = dktX1_walk_4 := dk_seg dksX1_walk_3 24 rfl rfl
theorem dksX1_walk_5 : cX1_walk.data.toList.drop 117 = dktX1_walk_5 := dk_seg dksX1_walk_4 22 rfl rfl
theorem dksX1_walk_6 : cX1_walk.data.toList.drop 140 = dktX1_walk_6 := dk_seg dksX1_walk_5 23 rfl rfl
theorem dksX1_walk_7 : cX1_walk.data.toList.drop 162 = dktX1_walk_7 := dk_seg dksX1_walk_6 22 rfl rfl
theorem dksX1_walk_8 : cX1_walk.data.toList.drop 186 = dktX1_walk_8 := dk_seg dksX1_walk_7 24 rfl rfl
theorem dksX1_walk_9 : cX1_walk.data.toList.drop 209 = dktX1_walk_9 := dk_seg dksX1_walk_8 23 rfl rfl
theorem dksX1_walk_10 : cX1_walk.data.toList.drop 232 = dktX1_walk_10 := dk_seg dksX1_walk_9 23 rfl rfl
theorem dksX1_walk_11 : cX1_walk.data.toList.drop 256 = dktX1_walk_11 := dk_seg dksX1_walk_10 24 rfl rfl
theorem dksX1_walk_12 : cX1_walk.data.toList.drop 279 = dktX1_walk_12 := dk_seg dksX1_walk_11 23 rfl rfl
theorem dksX1_walk_13 : cX1_walk.data.toList.drop 303 = dktX1_walk_13 := dk_seg dksX1_walk_12 24 rfl rfl
theorem dksX1_walk_14 : cX1_walk.data.toList.drop 325 = dktX1_walk_14 := dk_seg dksX1_walk_13 22 rfl rfl
theorem dksX1_walk_15 : cX1_walk.data.toList.drop 348 = dktX1_walk_15 := dk_seg dksX1_walk_14 23 rfl rfl
theorem dX1_walk_0 : decode cX1_walk 0 = .ok (.aload_n 0, 1) := dk_42 (dk_at dksX1_walk_0 0 rfl rfl)
theorem dX1_walk_1 : decode cX1_walk 1 = .ok (.getfield 28, 3) := dk_180 0 28 (dk_at dksX1_walk_0 1 rfl rfl)
theorem dX1_walk_4 : decode cX1_walk 4 = .ok (.ifCond .ne 6, 3) := dk_154 0 6 (dk_at dksX1_walk_0 4 rfl rfl)
theorem dX1_walk_7 : decode cX1_walk 7 = .ok (.bipush (-2), 2) := dk_16 254 (dk_at dksX1_walk_0 7 rfl rfl)
theorem dX1_walk_9 : decode cX1_walk 9 = .ok (.ireturn, 1) := dk_172 (dk_at dksX1_walk_0 9 rfl rfl)
theorem dX1_walk_10 : decode cX1_walk 10 = .ok (.sipush 1024, 3) := dk_17 4 0 (dk_at dksX1_walk_0 10 rfl rfl)
theorem dX1_walk_13 : decode cX1_walk 13 = .ok (.aload_n 0, 1) := dk_42 (dk_at dksX1_walk_0 13 rfl rfl)
theorem dX1_walk_14 : decode cX1_walk 14 = .ok (.getfield 278, 3) := dk_180 1 22 (dk_at dksX1_walk_0 14 rfl rfl)
theorem dX1_walk_17 : decode cX1_walk 17 = .ok (.isub, 1) := dk_100 (dk_at dksX1_walk_0 17 rfl rfl)
theorem dX1_walk_18 : decode cX1_walk 18 = .ok (.istore_n 3, 1) := dk_62 (dk_at dksX1_walk_0 18 rfl rfl)
theorem dX1_walk_19 : decode cX1_walk 19 = .ok (.aload_n 0, 1) := dk_42 (dk_at dksX1_walk_0 19 rfl rfl)
theorem dX1_walk_20 : decode cX1_walk 20 = .ok (.getfield 83, 3) := dk_180 0 83 (dk_at dksX1_walk_0 20 rfl rfl)
theorem dX1_walk_23 : decode cX1_walk 23 = .ok (.iconst 0, 1) := dk_3 (dk_at dksX1_walk_0 23 rfl rfl)
theorem dX1_walk_24 : decode cX1_walk 24 = .ok (.aload_n 0, 1) := dk_42 (dk_at dksX1_walk_1 0 rfl rfl)
theorem dX1_walk_25 : decode cX1_walk 25 = .ok (.getfield 86, 3) := dk_180 0 86 (dk_at dksX1_walk_1 1 rfl rfl)
theorem dX1_walk_28 : decode cX1_walk 28 = .ok (.iload_n 3, 1) := dk_29 (dk_at dksX1_walk_1 4 rfl rfl)
theorem dX1_walk_29 : decode cX1_walk 29 = .ok (.aload_n 0, 1) := dk_42 (dk_at dksX1_walk_1 5 rfl rfl)
theorem dX1_walk_30 : decode cX1_walk 30 = .ok (.getfield 278, 3) := dk_180 1 22 (dk_at dksX1_walk_1 6 rfl rfl)
theorem dX1_walk_33 : decode cX1_walk 33 = .ok (.invokestatic 300, 3) := dk_184 1 44 (dk_at dksX1_walk_1 9 rfl rfl)
theorem dX1_walk_36 : decode cX1_walk 36 = .ok (.aload_n 0, 1) := dk_42 (dk_at dksX1_walk_1 12 rfl rfl)
theorem dX1_walk_37 : decode cX1_walk 37 = .ok (.iconst 0, 1) := dk_3 (dk_at dksX1_walk_1 13 rfl rfl)
theorem dX1_walk_38 : decode cX1_walk 38 = .ok (.putfield 278, 3) := dk_181 1 22 (dk_at dksX1_walk_1 14 rfl rfl)
theorem dX1_walk_41 : decode cX1_walk 41 = .ok (.aload_n 0, 1) := dk_42 (dk_at dksX1_walk_1 17 rfl rfl)
theorem dX1_walk_42 : decode cX1_walk 42 = .ok (.iload_n 1, 1) := dk_27 (dk_at dksX1_walk_1 18 rfl rfl)
theorem dX1_walk_43 : decode cX1_walk 43 = .ok (.aload_n 0, 1) := dk_42 (dk_at dksX1_walk_1 19 rfl rfl)
theorem dX1_walk_44 : decode cX1_walk 44 = .ok (.getfield 54, 3) := dk_180 0 54 (dk_at dksX1_walk_1 20 rfl rfl)
theorem dX1_walk_47 : decode cX1_walk 47 = .ok (.invokevirtual 281, 3) := dk_182 1 25 (dk_at dksX1_walk_2 0 rfl rfl)
theorem dX1_walk_50 : decode cX1_walk 50 = .ok (.istore 4, 2) := dk_54 4 (dk_at dksX1_walk_2 3 rfl rfl)
theorem dX1_walk_52 : decode cX1_walk 52 = .ok (.iload 4, 2) := dk_21 4 (dk_at dksX1_walk_2 5 rfl rfl)
theorem dX1_walk_54 : decode cX1_walk 54 = .ok (.ifCond .ge 6, 3) := dk_156 0 6 (dk_at dksX1_walk_2 7 rfl rfl)
theorem dX1_walk_57 : decode cX1_walk 57 = .ok (.iload 4, 2) := dk_21 4 (dk_at dksX1_walk_2 10 rfl rfl)
theorem dX1_walk_59 : decode cX1_walk 59 = .ok (.ireturn, 1) := dk_172 (dk_at dksX1_walk_2 12 rfl rfl)
theorem dX1_walk_60 : decode cX1_walk 60 = .ok (.iload_n 3, 1) := dk_29 (dk_at dksX1_walk_2 13 rfl rfl)
theorem dX1_walk_61 : decode cX1_walk 61 = .ok (.sipush 1024, 3) := dk_17 4 0 (dk_at dksX1_walk_2 14 rfl rfl)
theorem dX1_walk_64 : decode cX1_walk 64 = .ok (.if_icmp .ge 18, 3) := dk_162 0 18 (dk_at dksX1_walk_2 17 rfl rfl)
theorem dX1_walk_67 : decode cX1_walk 67 = .ok (.aload_n 0, 1) := dk_42 (dk_at dksX1_walk_2 20 rfl rfl)
theorem dX1_walk_68 : decode cX1_walk 68 = .ok (.getfield 86, 3) := dk_180 0 86 (dk_at dksX1_walk_2 21 rfl rfl)
theorem dX1_walk_71 : decode cX1_walk 71 = .ok (.iload_n 3, 1) := dk_29 (dk_at dksX1_walk_3 0 rfl rfl)
theorem dX1_walk_72 : decode cX1_walk 72 = .ok (.baload, 1) := dk_51 (dk_at dksX1_walk_3 1 rfl rfl)
theorem dX1_walk_73 : decode cX1_walk 73 = .ok (.bipush 47, 2) := dk_16 47 (dk_at dksX1_walk_3 2 rfl rfl)
theorem dX1_walk_75 : decode cX1_walk 75 = .ok (.if_icmp .ne 7, 3) := dk_160 0 7 (dk_at dksX1_walk_3 4 rfl rfl)
theorem dX1_walk_78 : decode cX1_walk 78 = .ok (.iconst 1, 1) := dk_4 (dk_at dksX1_walk_3 7 rfl rfl)
theorem dX1_walk_79 : decode cX1_walk 79 = .ok (.goto 4, 3) := dk_167 0 4 (dk_at dksX1_walk_3 8 rfl rfl)
theorem dX1_walk_82 : decode cX1_walk 82 = .ok (.iload_n 1, 1) := dk_27 (dk_at dksX1_walk_3 11 rfl rfl)
theorem dX1_walk_83 : decode cX1_walk 83 = .ok (.istore 5, 2) := dk_54 5 (dk_at dksX1_walk_3 12 rfl rfl)
theorem dX1_walk_85 : decode cX1_walk 85 = .ok (.iconst 0, 1) := dk_3 (dk_at dksX1_walk_3 14 rfl rfl)
theorem dX1_walk_86 : decode cX1_walk 86 = .ok (.istore 6, 2) := dk_54 6 (dk_at dksX1_walk_3 15 rfl rfl)
theorem dX1_walk_88 : decode cX1_walk 88 = .ok (.aload_n 0, 1) := dk_42 (dk_at dksX1_walk_3 17 rfl rfl)
theorem dX1_walk_89 : decode cX1_walk 89 = .ok (.iload_n 3, 1) := dk_29 (dk_at dksX1_walk_3 18 rfl rfl)
theorem dX1_walk_90 : decode cX1_walk 90 = .ok (.iconst 0, 1) := dk_3 (dk_at dksX1_walk_3 19 rfl rfl)
theorem dX1_walk_91 : decode cX1_walk 91 = .ok (.invokevirtual 347, 3) := dk_182 1 91 (dk_at dksX1_walk_3 20 rfl rfl)
theorem dX1_walk_94 : decode cX1_walk 94 = .ok (.istore_n 3, 1) := dk_62 (dk_at dksX1_walk_3 23 rfl rfl)
theorem dX1_walk_95 : decode cX1_walk 95 = .ok (.iload_n 3, 1) := dk_29 (dk_at dksX1_walk_4 0 rfl rfl)
theorem dX1_walk_96 : decode cX1_walk 96 = .ok (.sipush 1024, 3) := dk_17 4 0 (dk_at dksX1_walk_4 1 rfl rfl)
theorem dX1_walk_99 : decode cX1_walk 99 = .ok (.if_icmp .ge 266, 3) := dk_162 1 10 (dk_at dksX1_walk_4 4 rfl rfl)
theorem dX1_walk_102 : decode cX1_walk 102 = .ok (.aload_n 0, 1) := dk_42 (dk_at dksX1_walk_4 7 rfl rfl)
theorem dX1_walk_103 : decode cX1_walk 103 = .ok (.iload_n 3, 1) := dk_29 (dk_at dksX1_walk_4 8 rfl rfl)
theorem dX1_walk_104 : decode cX1_walk 104 = .ok (.iconst 1, 1) := dk_4 (dk_at dksX1_walk_4 9 rfl rfl)
theorem dX1_walk_105 : decode cX1_walk 105 = .ok (.invokevirtual 347, 3) := dk_182 1 91 (dk_at dksX1_walk_4 10 rfl rfl)
theorem dX1_walk_108 : decode cX1_walk 108 = .ok (.istore 7, 2) := dk_54 7 (dk_at dksX1_walk_4 13 rfl rfl)
theorem dX1_walk_110 : decode cX1_walk 110 = .ok (.aload_n 0, 1) := dk_42 (dk_at dksX1_walk_4 15 rfl rfl)
theorem dX1_walk_111 : decode cX1_walk 111 = .ok (.iload 5, 2) := dk_21 5 (dk_at dksX1_walk_4 16 rfl rfl)
theorem dX1_walk_113 : decode cX1_walk 113 = .ok (.aload_n 0, 1) := dk_42 (dk_at dksX1_walk_4 18 rfl rfl)
theorem dX1_walk_114 : decode cX1_walk 114 = .ok (.getfield 54, 3) := dk_180 0 54 (dk_at dksX1_walk_4 19 rfl rfl)
theorem dX1_walk_117 : decode cX1_walk 117 = .ok (.invokevirtual 281, 3) := dk_182 1 25 (dk_at dksX1_walk_5 0 rfl rfl)
theorem dX1_walk_120 : decode cX1_walk 120 = .ok (.ifCond .ge 6, 3) := dk_156 0 6 (dk_at dksX1_walk_5 3 rfl rfl)
theorem dX1_walk_123 : decode cX1_walk 123 = .ok (.bipush (-6), 2) := dk_16 250 (dk_at dksX1_walk_5 6 rfl rfl)
theorem dX1_walk_125 : decode cX1_walk 125 = .ok (.ireturn, 1) := dk_172 (dk_at dksX1_walk_5 8 rfl rfl)
theorem dX1_walk_126 : decode cX1_walk 126 = .ok (.iload 7, 2) := dk_21 7 (dk_at dksX1_walk_5 9 rfl rfl)
theorem dX1_walk_128 : decode cX1_walk 128 = .ok (.iload_n 3, 1) := dk_29 (dk_at dksX1_walk_5 11 rfl rfl)
theorem dX1_walk_129 : decode cX1_walk 129 = .ok (.isub, 1) := dk_100 (dk_at dksX1_walk_5 12 rfl rfl)
theorem dX1_walk_130 : decode cX1_walk 130 = .ok (.istore 8, 2) := dk_54 8 (dk_at dksX1_walk_5 13 rfl rfl)
theorem dX1_walk_132 : decode cX1_walk 132 = .ok (.aload_n 0, 1) := dk_42 (dk_at dksX1_walk_5 15 rfl rfl)
theorem dX1_walk_133 : decode cX1_walk 133 = .ok (.iload_n 3, 1) := dk_29 (dk_at dksX1_walk_5 16 rfl rfl)
theorem dX1_walk_134 : decode cX1_walk 134 = .ok (.iload 8, 2) := dk_21 8 (dk_at dksX1_walk_5 17 rfl rfl)
theorem dX1_walk_136 : decode cX1_walk 136 = .ok (.iconst 1, 1) := dk_4 (dk_at dksX1_walk_5 19 rfl rfl)
theorem dX1_walk_137 : decode cX1_walk 137 = .ok (.invokevirtual 350, 3) := dk_182 1 94 (dk_at dksX1_walk_5 20 rfl rfl)
theorem dX1_walk_140 : decode cX1_walk 140 = .ok (.ifCond .ne 14, 3) := dk_154 0 14 (dk_at dksX1_walk_6 0 rfl rfl)
theorem dX1_walk_143 : decode cX1_walk 143 = .ok (.aload_n 0, 1) := dk_42 (dk_at dksX1_walk_6 3 rfl rfl)
theorem dX1_walk_144 : decode cX1_walk 144 = .ok (.iload_n 3, 1) := dk_29 (dk_at dksX1_walk_6 4 rfl rfl)
theorem dX1_walk_145 : decode cX1_walk 145 = .ok (.iload 8, 2) := dk_21 8 (dk_at dksX1_walk_6 5 rfl rfl)
theorem dX1_walk_147 : decode cX1_walk 147 = .ok (.iconst 2, 1) := dk_5 (dk_at dksX1_walk_6 7 rfl rfl)
theorem dX1_walk_148 : decode cX1_walk 148 = .ok (.invokevirtual 350, 3) := dk_182 1 94 (dk_at dksX1_walk_6 8 rfl rfl)
theorem dX1_walk_151 : decode cX1_walk 151 = .ok (.ifCond .eq 28, 3) := dk_153 0 28 (dk_at dksX1_walk_6 11 rfl rfl)
theorem dX1_walk_154 : decode cX1_walk 154 = .ok (.iload 8, 2) := dk_21 8 (dk_at dksX1_walk_6 14 rfl rfl)
theorem dX1_walk_156 : decode cX1_walk 156 = .ok (.iconst 1, 1) := dk_4 (dk_at dksX1_walk_6 16 rfl rfl)
theorem dX1_walk_157 : decode cX1_walk 157 = .ok (.if_icmp .ne 8, 3) := dk_160 0 8 (dk_at dksX1_walk_6 17 rfl rfl)
theorem dX1_walk_160 : decode cX1_walk 160 = .ok (.iload 5, 2) := dk_21 5 (dk_at dksX1_walk_6 20 rfl rfl)
theorem dX1_walk_162 : decode cX1_walk 162 = .ok (.goto 9, 3) := dk_167 0 9 (dk_at dksX1_walk_7 0 rfl rfl)
theorem dX1_walk_165 : decode cX1_walk 165 = .ok (.aload_n 0, 1) := dk_42 (dk_at dksX1_walk_7 3 rfl rfl)
theorem dX1_walk_166 : decode cX1_walk 166 = .ok (.iload 5, 2) := dk_21 5 (dk_at dksX1_walk_7 4 rfl rfl)
theorem dX1_walk_168 : decode cX1_walk 168 = .ok (.invokevirtual 353, 3) := dk_182 1 97 (dk_at dksX1_walk_7 6 rfl rfl)
theorem dX1_walk_171 : decode cX1_walk 171 = .ok (.istore 5, 2) := dk_54 5 (dk_at dksX1_walk_7 9 rfl rfl)
theorem dX1_walk_173 : decode cX1_walk 173 = .ok (.iload 7, 2) := dk_21 7 (dk_at dksX1_walk_7 11 rfl rfl)
theorem dX1_walk_175 : decode cX1_walk 175 = .ok (.istore_n 3, 1) := dk_62 (dk_at dksX1_walk_7 13 rfl rfl)
theorem dX1_walk_176 : decode cX1_walk 176 = .ok (.goto 179, 3) := dk_167 0 179 (dk_at dksX1_walk_7 14 rfl rfl)
theorem dX1_walk_179 : decode cX1_walk 179 = .ok (.iload 8, 2) := dk_21 8 (dk_at dksX1_walk_7 17 rfl rfl)
theorem dX1_walk_181 : decode cX1_walk 181 = .ok (.bipush 8, 2) := dk_16 8 (dk_at dksX1_walk_7 19 rfl rfl)
theorem dX1_walk_183 : decode cX1_walk 183 = .ok (.if_icmp .le 6, 3) := dk_164 0 6 (dk_at dksX1_walk_7 21 rfl rfl)
theorem dX1_walk_186 : decode cX1_walk 186 = .ok (.bipush (-3), 2) := dk_16 253 (dk_at dksX1_walk_8 0 rfl rfl)
theorem dX1_walk_188 : decode cX1_walk 188 = .ok (.ireturn, 1) := dk_172 (dk_at dksX1_walk_8 2 rfl rfl)
theorem dX1_walk_189 : decode cX1_walk 189 = .ok (.lconst 0, 1) := dk_9 (dk_at dksX1_walk_8 3 rfl rfl)
theorem dX1_walk_190 : decode cX1_walk 190 = .ok (.lstore 9, 2) := dk_55 9 (dk_at dksX1_walk_8 4 rfl rfl)
theorem dX1_walk_192 : decode cX1_walk 192 = .ok (.iload 8, 2) := dk_21 8 (dk_at dksX1_walk_8 6 rfl rfl)
theorem dX1_walk_194 : decode cX1_walk 194 = .ok (.iconst 1, 1) := dk_4 (dk_at dksX1_walk_8 8 rfl rfl)
theorem dX1_walk_195 : decode cX1_walk 195 = .ok (.isub, 1) := dk_100 (dk_at dksX1_walk_8 9 rfl rfl)
theorem dX1_walk_196 : decode cX1_walk 196 = .ok (.istore 11, 2) := dk_54 11 (dk_at dksX1_walk_8 10 rfl rfl)
theorem dX1_walk_198 : decode cX1_walk 198 = .ok (.iload 11, 2) := dk_21 11 (dk_at dksX1_walk_8 12 rfl rfl)
theorem dX1_walk_200 : decode cX1_walk 200 = .ok (.ifCond .lt 31, 3) := dk_155 0 31 (dk_at dksX1_walk_8 14 rfl rfl)
theorem dX1_walk_203 : decode cX1_walk 203 = .ok (.lload 9, 2) := dk_22 9 (dk_at dksX1_walk_8 17 rfl rfl)
theorem dX1_walk_205 : decode cX1_walk 205 = .ok (.bipush 8, 2) := dk_16 8 (dk_at dksX1_walk_8 19 rfl rfl)
theorem dX1_walk_207 : decode cX1_walk 207 = .ok (.lshl, 1) := dk_121 (dk_at dksX1_walk_8 21 rfl rfl)
theorem dX1_walk_208 : decode cX1_walk 208 = .ok (.aload_n 0, 1) := dk_42 (dk_at dksX1_walk_8 22 rfl rfl)
theorem dX1_walk_209 : decode cX1_walk 209 = .ok (.getfield 86, 3) := dk_180 0 86 (dk_at dksX1_walk_9 0 rfl rfl)
theorem dX1_walk_212 : decode cX1_walk 212 = .ok (.iload_n 3, 1) := dk_29 (dk_at dksX1_walk_9 3 rfl rfl)
theorem dX1_walk_213 : decode cX1_walk 213 = .ok (.iload 11, 2) := dk_21 11 (dk_at dksX1_walk_9 4 rfl rfl)
theorem dX1_walk_215 : decode cX1_walk 215 = .ok (.iadd, 1) := dk_96 (dk_at dksX1_walk_9 6 rfl rfl)
theorem dX1_walk_216 : decode cX1_walk 216 = .ok (.baload, 1) := dk_51 (dk_at dksX1_walk_9 7 rfl rfl)
theorem dX1_walk_217 : decode cX1_walk 217 = .ok (.i2l, 1) := dk_133 (dk_at dksX1_walk_9 8 rfl rfl)
theorem dX1_walk_218 : decode cX1_walk 218 = .ok (.ldc2_w 195, 3) := dk_20 0 195 (dk_at dksX1_walk_9 9 rfl rfl)
theorem dX1_walk_221 : decode cX1_walk 221 = .ok (.land, 1) := dk_127 (dk_at dksX1_walk_9 12 rfl rfl)
theorem dX1_walk_222 : decode cX1_walk 222 = .ok (.lor, 1) := dk_129 (dk_at dksX1_walk_9 13 rfl rfl)
theorem dX1_walk_223 : decode cX1_walk 223 = .ok (.lstore 9, 2) := dk_55 9 (dk_at dksX1_walk_9 14 rfl rfl)
theorem dX1_walk_225 : decode cX1_walk 225 = .ok (.iinc 11 (-1), 3) := dk_132 11 255 (dk_at dksX1_walk_9 16 rfl rfl)
theorem dX1_walk_228 : decode cX1_walk 228 = .ok (.goto (-30), 3) := dk_167 255 226 (dk_at dksX1_walk_9 19 rfl rfl)
theorem dX1_walk_231 : decode cX1_walk 231 = .ok (.aload_n 0, 1) := dk_42 (dk_at dksX1_walk_9 22 rfl rfl)
theorem dX1_walk_232 : decode cX1_walk 232 = .ok (.iload 5, 2) := dk_21 5 (dk_at dksX1_walk_10 0 rfl rfl)
theorem dX1_walk_234 : decode cX1_walk 234 = .ok (.lload 9, 2) := dk_22 9 (dk_at dksX1_walk_10 2 rfl rfl)
theorem dX1_walk_236 : decode cX1_walk 236 = .ok (.invokevirtual 285, 3) := dk_182 1 29 (dk_at dksX1_walk_10 4 rfl rfl)
theorem dX1_walk_239 : decode cX1_walk 239 = .ok (.istore 11, 2) := dk_54 11 (dk_at dksX1_walk_10 7 rfl rfl)
theorem dX1_walk_241 : decode cX1_walk 241 = .ok (.iload 11, 2) := dk_21 11 (dk_at dksX1_walk_10 9 rfl rfl)
theorem dX1_walk_243 : decode cX1_walk 243 = .ok (.ifCond .ne 6, 3) := dk_154 0 6 (dk_at dksX1_walk_10 11 rfl rfl)
theorem dX1_walk_246 : decode cX1_walk 246 = .ok (.bipush (-4), 2) := dk_16 252 (dk_at dksX1_walk_10 14 rfl rfl)
theorem dX1_walk_248 : decode cX1_walk 248 = .ok (.ireturn, 1) := dk_172 (dk_at dksX1_walk_10 16 rfl rfl)
theorem dX1_walk_249 : decode cX1_walk 249 = .ok (.aload_n 0, 1) := dk_42 (dk_at dksX1_walk_10 17 rfl rfl)
theorem dX1_walk_250 : decode cX1_walk 250 = .ok (.iload 11, 2) := dk_21 11 (dk_at dksX1_walk_10 18 rfl rfl)
theorem dX1_walk_252 : decode cX1_walk 252 = .ok (.aload_n 0, 1) := dk_42 (dk_at dksX1_walk_10 20 rfl rfl)
theorem dX1_walk_253 : decode cX1_walk 253 = .ok (.getfield 58, 3) := dk_180 0 58 (dk_at dksX1_walk_10 21 rfl rfl)
theorem dX1_walk_256 : decode cX1_walk 256 = .ok (.invokevirtual 214, 3) := dk_182 0 214 (dk_at dksX1_walk_11 0 rfl rfl)
theorem dX1_walk_259 : decode cX1_walk 259 = .ok (.pop, 1) := dk_87 (dk_at dksX1_walk_11 3 rfl rfl)
theorem dX1_walk_260 : decode cX1_walk 260 = .ok (.iload 7, 2) := dk_21 7 (dk_at dksX1_walk_11 4 rfl rfl)
theorem dX1_walk_262 : decode cX1_walk 262 = .ok (.istore_n 3, 1) := dk_62 (dk_at dksX1_walk_11 6 rfl rfl)
theorem dX1_walk_263 : decode cX1_walk 263 = .ok (.aload_n 0, 1) := dk_42 (dk_at dksX1_walk_11 7 rfl rfl)
theorem dX1_walk_264 : decode cX1_walk 264 = .ok (.getfield 58, 3) := dk_180 0 58 (dk_at dksX1_walk_11 8 rfl rfl)
theorem dX1_walk_267 : decode cX1_walk 267 = .ok (.getfield 182, 3) := dk_180 0 182 (dk_at dksX1_walk_11 11 rfl rfl)
theorem dX1_walk_270 : decode cX1_walk 270 = .ok (.iconst 3, 1) := dk_6 (dk_at dksX1_walk_11 14 rfl rfl)
theorem dX1_walk_271 : decode cX1_walk 271 = .ok (.if_icmp .ne 80, 3) := dk_160 0 80 (dk_at dksX1_walk_11 15 rfl rfl)
theorem dX1_walk_274 : decode cX1_walk 274 = .ok (.iload_n 2, 1) := dk_28 (dk_at dksX1_walk_11 18 rfl rfl)
theorem dX1_walk_275 : decode cX1_walk 275 = .ok (.ifCond .ne 16, 3) := dk_154 0 16 (dk_at dksX1_walk_11 19 rfl rfl)
theorem dX1_walk_278 : decode cX1_walk 278 = .ok (.aload_n 0, 1) := dk_42 (dk_at dksX1_walk_11 22 rfl rfl)
theorem dX1_walk_279 : decode cX1_walk 279 = .ok (.iload 7, 2) := dk_21 7 (dk_at dksX1_walk_12 0 rfl rfl)
theorem dX1_walk_281 : decode cX1_walk 281 = .ok (.iconst 0, 1) := dk_3 (dk_at dksX1_walk_12 2 rfl rfl)
theorem dX1_walk_282 : decode cX1_walk 282 = .ok (.invokevirtual 347, 3) := dk_182 1 91 (dk_at dksX1_walk_12 3 rfl rfl)
theorem dX1_walk_285 : decode cX1_walk 285 = .ok (.sipush 1024, 3) := dk_17 4 0 (dk_at dksX1_walk_12 6 rfl rfl)
theorem dX1_walk_288 : decode cX1_walk 288 = .ok (.if_icmp .ge 63, 3) := dk_162 0 63 (dk_at dksX1_walk_12 9 rfl rfl)
theorem dX1_walk_291 : decode cX1_walk 291 = .ok (.iinc 6 1, 3) := dk_132 6 1 (dk_at dksX1_walk_12 12 rfl rfl)
theorem dX1_walk_294 : decode cX1_walk 294 = .ok (.iload 6, 2) := dk_21 6 (dk_at dksX1_walk_12 15 rfl rfl)
theorem dX1_walk_296 : decode cX1_walk 296 = .ok (.bipush 8, 2) := dk_16 8 (dk_at dksX1_walk_12 17 rfl rfl)
theorem dX1_walk_298 : decode cX1_walk 298 = .ok (.if_icmp .le 6, 3) := dk_164 0 6 (dk_at dksX1_walk_12 19 rfl rfl)
theorem dX1_walk_301 : decode cX1_walk 301 = .ok (.bipush (-9), 2) := dk_16 247 (dk_at dksX1_walk_12 22 rfl rfl)
theorem dX1_walk_303 : decode cX1_walk 303 = .ok (.ireturn, 1) := dk_172 (dk_at dksX1_walk_13 0 rfl rfl)
theorem dX1_walk_304 : decode cX1_walk 304 = .ok (.aload_n 0, 1) := dk_42 (dk_at dksX1_walk_13 1 rfl rfl)
theorem dX1_walk_305 : decode cX1_walk 305 = .ok (.iload 11, 2) := dk_21 11 (dk_at dksX1_walk_13 2 rfl rfl)
theorem dX1_walk_307 : decode cX1_walk 307 = .ok (.iconst 0, 1) := dk_3 (dk_at dksX1_walk_13 4 rfl rfl)
theorem dX1_walk_308 : decode cX1_walk 308 = .ok (.invokevirtual 356, 3) := dk_182 1 100 (dk_at dksX1_walk_13 5 rfl rfl)
theorem dX1_walk_311 : decode cX1_walk 311 = .ok (.istore 12, 2) := dk_54 12 (dk_at dksX1_walk_13 8 rfl rfl)
theorem dX1_walk_313 : decode cX1_walk 313 = .ok (.iload 7, 2) := dk_21 7 (dk_at dksX1_walk_13 10 rfl rfl)
theorem dX1_walk_315 : decode cX1_walk 315 = .ok (.iload 12, 2) := dk_21 12 (dk_at dksX1_walk_13 12 rfl rfl)
theorem dX1_walk_317 : decode cX1_walk 317 = .ok (.isub, 1) := dk_100 (dk_at dksX1_walk_13 14 rfl rfl)
theorem dX1_walk_318 : decode cX1_walk 318 = .ok (.istore_n 3, 1) := dk_62 (dk_at dksX1_walk_13 15 rfl rfl)
theorem dX1_walk_319 : decode cX1_walk 319 = .ok (.aload_n 0, 1) := dk_42 (dk_at dksX1_walk_13 16 rfl rfl)
theorem dX1_walk_320 : decode cX1_walk 320 = .ok (.getfield 47, 3) := dk_180 0 47 (dk_at dksX1_walk_13 17 rfl rfl)
theorem dX1_walk_323 : decode cX1_walk 323 = .ok (.iconst 0, 1) := dk_3 (dk_at dksX1_walk_13 20 rfl rfl)
theorem dX1_walk_324 : decode cX1_walk 324 = .ok (.aload_n 0, 1) := dk_42 (dk_at dksX1_walk_13 21 rfl rfl)
theorem dX1_walk_325 : decode cX1_walk 325 = .ok (.getfield 86, 3) := dk_180 0 86 (dk_at dksX1_walk_14 0 rfl rfl)
theorem dX1_walk_328 : decode cX1_walk 328 = .ok (.iload_n 3, 1) := dk_29 (dk_at dksX1_walk_14 3 rfl rfl)
theorem dX1_walk_329 : decode cX1_walk 329 = .ok (.iload 12, 2) := dk_21 12 (dk_at dksX1_walk_14 4 rfl rfl)
theorem dX1_walk_331 : decode cX1_walk 331 = .ok (.invokestatic 300, 3) := dk_184 1 44 (dk_at dksX1_walk_14 6 rfl rfl)
theorem dX1_walk_334 : decode cX1_walk 334 = .ok (.aload_n 0, 1) := dk_42 (dk_at dksX1_walk_14 9 rfl rfl)
theorem dX1_walk_335 : decode cX1_walk 335 = .ok (.getfield 86, 3) := dk_180 0 86 (dk_at dksX1_walk_14 10 rfl rfl)
theorem dX1_walk_338 : decode cX1_walk 338 = .ok (.iload_n 3, 1) := dk_29 (dk_at dksX1_walk_14 13 rfl rfl)
theorem dX1_walk_339 : decode cX1_walk 339 = .ok (.baload, 1) := dk_51 (dk_at dksX1_walk_14 14 rfl rfl)
theorem dX1_walk_340 : decode cX1_walk 340 = .ok (.bipush 47, 2) := dk_16 47 (dk_at dksX1_walk_14 15 rfl rfl)
theorem dX1_walk_342 : decode cX1_walk 342 = .ok (.if_icmp .ne 6, 3) := dk_160 0 6 (dk_at dksX1_walk_14 17 rfl rfl)
theorem dX1_walk_345 : decode cX1_walk 345 = .ok (.iconst 1, 1) := dk_4 (dk_at dksX1_walk_14 20 rfl rfl)
theorem dX1_walk_346 : decode cX1_walk 346 = .ok (.istore 5, 2) := dk_54 5 (dk_at dksX1_walk_14 21 rfl rfl)
theorem dX1_walk_348 : decode cX1_walk 348 = .ok (.goto 7, 3) := dk_167 0 7 (dk_at dksX1_walk_15 0 rfl rfl)
theorem dX1_walk_351 : decode cX1_walk 351 = .ok (.iload 11, 2) := dk_21 11 (dk_at dksX1_walk_15 3 rfl rfl)
theorem dX1_walk_353 : decode cX1_walk 353 = .ok (.istore 5, 2) := dk_54 5 (dk_at dksX1_walk_15 5 rfl rfl)
theorem dX1_walk_355 : decode cX1_walk 355 = .ok (.aload_n 0, 1) := dk_42 (dk_at dksX1_walk_15 7 rfl rfl)
theorem dX1_walk_356 : decode cX1_walk 356 = .ok (.iload_n 3, 1) := dk_29 (dk_at dksX1_walk_15 8 rfl rfl)
theorem dX1_walk_357 : decode cX1_walk 357 = .ok (.iconst 0, 1) := dk_3 (dk_at dksX1_walk_15 9 rfl rfl)
theorem dX1_walk_358 : decode cX1_walk 358 = .ok (.invokevirtual 347, 3) := dk_182 1 91 (dk_at dksX1_walk_15 10 rfl rfl)
theorem dX1_walk_361 : decode cX1_walk 361 = .ok (.istore_n 3, 1) := dk_62 (dk_at dksX1_walk_15 13 rfl rfl)
theorem dX1_walk_362 : decode cX1_walk 362 = .ok (.goto (-267), 3) := dk_167 254 245 (dk_at dksX1_walk_15 14 rfl rfl)
theorem dX1_walk_365 : decode cX1_walk 365 = .ok (.iload 5, 2) := dk_21 5 (dk_at dksX1_walk_15 17 rfl rfl)
theorem dX1_walk_367 : decode cX1_walk 367 = .ok (.ireturn, 1) := dk_172 (dk_at dksX1_walk_15 19 rfl rfl)
abbrev cX1_next : ByteArray := prog_1_method_44_code
def yX1_next : MethodName := ⟨RX1, "next", "(IZ)I"⟩
def dkwX1_next_1 : List UInt8 := [3, 28, 159, 0, 9, 132, 3, 1, 167, 255, 226, 29, 172]
abbrev dktX1_next_1 : List UInt8 := dkwX1_next_1 ++ []
def dkwX1_next_0 : List UInt8 := [27, 62, 29, 17, 4, 0, 162, 0, 29, 42, 180, 0, 86, 29, 51, 16, 47, 160, 0, 7, 4, 167, 0, 4]
abbrev dktX1_next_0 : List UInt8 := dkwX1_next_0 ++ dktX1_next_1
theorem dksX1_next_0 : cX1_next.data.toList.drop 0 = dktX1_next_0 := by decide +kernel
theorem dksX1_next_1 : cX1_next.data.toList.drop 24 = dktX1_next_1 := dk_seg dksX1_next_0 24 rfl rfl
theorem dX1_next_0 : decode cX1_next 0 = .ok (.iload_n 1, 1) := dk_27 (dk_at dksX1_next_0 0 rfl rfl)
theorem dX1_next_1 : decode cX1_next 1 = .ok (.istore_n 3, 1) := dk_62 (dk_at dksX1_next_0 1 rfl rfl)
theorem dX1_next_2 : decode cX1_next 2 = .ok (.iload_n 3, 1) := dk_29 (dk_at dksX1_next_0 2 rfl rfl)
theorem dX1_next_3 : decode cX1_next 3 = .ok (.sipush 1024, 3) := dk_17 4 0 (dk_at dksX1_next_0 3 rfl rfl)
theorem dX1_next_6 : decode cX1_next 6 = .ok (.if_icmp .ge 29, 3) := dk_162 0 29 (dk_at dksX1_next_0 6 rfl rfl)
theorem dX1_next_9 : decode cX1_next 9 = .ok (.aload_n 0, 1) := dk_42 (dk_at dksX1_next_0 9 rfl rfl)
theorem dX1_next_10 : decode cX1_next 10 = .ok (.getfield 86, 3) := dk_180 0 86 (dk_at dksX1_next_0 10 rfl rfl)
theorem dX1_next_13 : decode cX1_next 13 = .ok (.iload_n 3, 1) := dk_29 (dk_at dksX1_next_0 13 rfl rfl)
theorem dX1_next_14 : decode cX1_next 14 = .ok (.baload, 1) := dk_51 (dk_at dksX1_next_0 14 rfl rfl)
theorem dX1_next_15 : decode cX1_next 15 = .ok (.bipush 47, 2) := dk_16 47 (dk_at dksX1_next_0 15 rfl rfl)
theorem dX1_next_17 : decode cX1_next 17 = .ok (.if_icmp .ne 7, 3) := dk_160 0 7 (dk_at dksX1_next_0 17 rfl rfl)
theorem dX1_next_20 : decode cX1_next 20 = .ok (.iconst 1, 1) := dk_4 (dk_at dksX1_next_0 20 rfl rfl)
theorem dX1_next_21 : decode cX1_next 21 = .ok (.goto 4, 3) := dk_167 0 4 (dk_at dksX1_next_0 21 rfl rfl)
theorem dX1_next_24 : decode cX1_next 24 = .ok (.iconst 0, 1) := dk_3 (dk_at dksX1_next_1 0 rfl rfl)
theorem dX1_next_25 : decode cX1_next 25 = .ok (.iload_n 2, 1) := dk_28 (dk_at dksX1_next_1 1 rfl rfl)
theorem dX1_next_26 : decode cX1_next 26 = .ok (.if_icmp .eq 9, 3) := dk_159 0 9 (dk_at dksX1_next_1 2 rfl rfl)
theorem dX1_next_29 : decode cX1_next 29 = .ok (.iinc 3 1, 3) := dk_132 3 1 (dk_at dksX1_next_1 5 rfl rfl)
theorem dX1_next_32 : decode cX1_next 32 = .ok (.goto (-30), 3) := dk_167 255 226 (dk_at dksX1_next_1 8 rfl rfl)
theorem dX1_next_35 : decode cX1_next 35 = .ok (.iload_n 3, 1) := dk_29 (dk_at dksX1_next_1 11 rfl rfl)
theorem dX1_next_36 : decode cX1_next 36 = .ok (.ireturn, 1) := dk_172 (dk_at dksX1_next_1 12 rfl rfl)
abbrev cX1_areDots : ByteArray := prog_1_method_43_code
def yX1_areDots : MethodName := ⟨RX1, "areDots", "(III)Z"⟩
def dkwX1_areDots_2 : List UInt8 := [132, 5, 1, 167, 255, 221, 21, 4, 172]
abbrev dktX1_areDots_2 : List UInt8 := dkwX1_areDots_2 ++ []
def dkwX1_areDots_1 : List UInt8 := [153, 0, 30, 42, 180, 0, 86, 27, 21, 5, 96, 51, 16, 46, 160, 0, 7, 4, 167, 0, 4, 3, 54, 4]
abbrev dktX1_areDots_1 : List UInt8 := dkwX1_areDots_1 ++ dktX1_areDots_2
def dkwX1_areDots_0 : List UInt8 := [28, 29, 160, 0, 7, 4, 167, 0, 4, 3, 54, 4, 3, 54, 5, 21, 5, 28, 162, 0, 35, 21, 4]
abbrev dktX1_areDots_0 : List UInt8 := dkwX1_areDots_0 ++ dktX1_areDots_1
theorem dksX1_areDots_0 : cX1_areDots.data.toList.drop 0 = dktX1_areDots_0 := by decide +kernel
theorem dksX1_areDots_1 : cX1_areDots.data.toList.drop 23 = dktX1_areDots_1 := dk_seg dksX1_areDots_0 23 rfl rfl
theorem dksX1_areDots_2 : cX1_areDots.data.toList.drop 47 = dktX1_areDots_2 := dk_seg dksX1_areDots_1 24 rfl rfl
theorem dX1_areDots_0 : decode cX1_areDots 0 = .ok (.iload_n 2, 1) := dk_28 (dk_at dksX1_areDots_0 0 rfl rfl)
theorem dX1_areDots_1 : decode cX1_areDots 1 = .ok (.iload_n 3, 1) := dk_29 (dk_at dksX1_areDots_0 1 rfl rfl)
theorem dX1_areDots_2 : decode cX1_areDots 2 = .ok (.if_icmp .ne 7, 3) := dk_160 0 7 (dk_at dksX1_areDots_0 2 rfl rfl)
theorem dX1_areDots_5 : decode cX1_areDots 5 = .ok (.iconst 1, 1) := dk_4 (dk_at dksX1_areDots_0 5 rfl rfl)
theorem dX1_areDots_6 : decode cX1_areDots 6 = .ok (.goto 4, 3) := dk_167 0 4 (dk_at dksX1_areDots_0 6 rfl rfl)
theorem dX1_areDots_9 : decode cX1_areDots 9 = .ok (.iconst 0, 1) := dk_3 (dk_at dksX1_areDots_0 9 rfl rfl)
theorem dX1_areDots_10 : decode cX1_areDots 10 = .ok (.istore 4, 2) := dk_54 4 (dk_at dksX1_areDots_0 10 rfl rfl)
theorem dX1_areDots_12 : decode cX1_areDots 12 = .ok (.iconst 0, 1) := dk_3 (dk_at dksX1_areDots_0 12 rfl rfl)
theorem dX1_areDots_13 : decode cX1_areDots 13 = .ok (.istore 5, 2) := dk_54 5 (dk_at dksX1_areDots_0 13 rfl rfl)
theorem dX1_areDots_15 : decode cX1_areDots 15 = .ok (.iload 5, 2) := dk_21 5 (dk_at dksX1_areDots_0 15 rfl rfl)
theorem dX1_areDots_17 : decode cX1_areDots 17 = .ok (.iload_n 2, 1) := dk_28 (dk_at dksX1_areDots_0 17 rfl rfl)
theorem dX1_areDots_18 : decode cX1_areDots 18 = .ok (.if_icmp .ge 35, 3) := dk_162 0 35 (dk_at dksX1_areDots_0 18 rfl rfl)
theorem dX1_areDots_21 : decode cX1_areDots 21 = .ok (.iload 4, 2) := dk_21 4 (dk_at dksX1_areDots_0 21 rfl rfl)
theorem dX1_areDots_23 : decode cX1_areDots 23 = .ok (.ifCond .eq 30, 3) := dk_153 0 30 (dk_at dksX1_areDots_1 0 rfl rfl)
theorem dX1_areDots_26 : decode cX1_areDots 26 = .ok (.aload_n 0, 1) := dk_42 (dk_at dksX1_areDots_1 3 rfl rfl)
theorem dX1_areDots_27 : decode cX1_areDots 27 = .ok (.getfield 86, 3) := dk_180 0 86 (dk_at dksX1_areDots_1 4 rfl rfl)
theorem dX1_areDots_30 : decode cX1_areDots 30 = .ok (.iload_n 1, 1) := dk_27 (dk_at dksX1_areDots_1 7 rfl rfl)
theorem dX1_areDots_31 : decode cX1_areDots 31 = .ok (.iload 5, 2) := dk_21 5 (dk_at dksX1_areDots_1 8 rfl rfl)
theorem dX1_areDots_33 : decode cX1_areDots 33 = .ok (.iadd, 1) := dk_96 (dk_at dksX1_areDots_1 10 rfl rfl)
theorem dX1_areDots_34 : decode cX1_areDots 34 = .ok (.baload, 1) := dk_51 (dk_at dksX1_areDots_1 11 rfl rfl)
theorem dX1_areDots_35 : decode cX1_areDots 35 = .ok (.bipush 46, 2) := dk_16 46 (dk_at dksX1_areDots_1 12 rfl rfl)
theorem dX1_areDots_37 : decode cX1_areDots 37 = .ok (.if_icmp .ne 7, 3) := dk_160 0 7 (dk_at dksX1_areDots_1 14 rfl rfl)
theorem dX1_areDots_40 : decode cX1_areDots 40 = .ok (.iconst 1, 1) := dk_4 (dk_at dksX1_areDots_1 17 rfl rfl)
theorem dX1_areDots_41 : decode cX1_areDots 41 = .ok (.goto 4, 3) := dk_167 0 4 (dk_at dksX1_areDots_1 18 rfl rfl)
theorem dX1_areDots_44 : decode cX1_areDots 44 = .ok (.iconst 0, 1) := dk_3 (dk_at dksX1_areDots_1 21 rfl rfl)
theorem dX1_areDots_45 : decode cX1_areDots 45 = .ok (.istore 4, 2) := dk_54 4 (dk_at dksX1_areDots_1 22 rfl rfl)
theorem dX1_areDots_47 : decode cX1_areDots 47 = .ok (.iinc 5 1, 3) := dk_132 5 1 (dk_at dksX1_areDots_2 0 rfl rfl)
theorem dX1_areDots_50 : decode cX1_areDots 50 = .ok (.goto (-35), 3) := dk_167 255 221 (dk_at dksX1_areDots_2 3 rfl rfl)
theorem dX1_areDots_53 : decode cX1_areDots 53 = .ok (.iload 4, 2) := dk_21 4 (dk_at dksX1_areDots_2 6 rfl rfl)
theorem dX1_areDots_55 : decode cX1_areDots 55 = .ok (.ireturn, 1) := dk_172 (dk_at dksX1_areDots_2 8 rfl rfl)
abbrev cX1_above : ByteArray := prog_1_method_42_code
def yX1_above : MethodName := ⟨RX1, "above", "(I)I"⟩
def dkwX1_above_5 : List UInt8 := [4, 172]
abbrev dktX1_above_5 : List UInt8 := dkwX1_above_5 ++ []
def dkwX1_above_4 : List UInt8 := [182, 0, 210, 181, 1, 88, 44, 180, 0, 149, 20, 0, 18, 109, 136, 172, 44, 182, 0, 153, 62, 167, 255, 162]
abbrev dktX1_above_4 : List UInt8 := dkwX1_above_4 ++ dktX1_above_5
def dkwX1_above_3 : List UInt8 := [180, 0, 111, 180, 0, 170, 7, 182, 0, 178, 27, 160, 0, 29, 42, 42, 180, 0, 111, 180, 0, 170, 16, 8]
abbrev dktX1_above_3 : List UInt8 := dkwX1_above_3 ++ dktX1_above_4
def dkwX1_above_2 : List UInt8 := [180, 0, 164, 44, 180, 0, 167, 44, 180, 0, 146, 42, 180, 0, 111, 180, 0, 170, 182, 0, 173, 42]
abbrev dktX1_above_2 : List UInt8 := dkwX1_above_2 ++ dktX1_above_3
def dkwX1_above_1 : List UInt8 := [44, 180, 0, 149, 20, 0, 18, 113, 20, 1, 82, 148, 153, 0, 6, 167, 0, 70, 42, 180, 0, 111, 44]
abbrev dktX1_above_1 : List UInt8 := dkwX1_above_1 ++ dktX1_above_2
def dkwX1_above_0 : List UInt8 := [42, 180, 0, 111, 180, 0, 136, 77, 42, 9, 181, 1, 88, 44, 9, 9, 182, 0, 140, 62, 29, 153, 0, 96]
abbrev dktX1_above_0 : List UInt8 := dkwX1_above_0 ++ dktX1_above_1
theorem dksX1_above_0 : cX1_above.data.toList.drop 0 = dktX1_above_0 := by decide +kernel
theorem dksX1_above_1 : cX1_above.data.toList.drop 24 = dktX1_above_1 := dk_seg dksX1_above_0 24 rfl rfl
theorem dksX1_above_2 : cX1_above.data.toList.drop 47 = dktX1_above_2 := dk_seg dksX1_above_1 23 rfl rfl
theorem dksX1_above_3 : cX1_above.data.toList.drop 69 = dktX1_above_3 := dk_seg dksX1_above_2 22 rfl rfl
theorem dksX1_above_4 : cX1_above.data.toList.drop 93 = dktX1_above_4 := dk_seg dksX1_above_3 24 rfl rfl
theorem dksX1_above_5 : cX1_above.data.toList.drop 117 = dktX1_above_5 := dk_seg dksX1_above_4 24 rfl rfl
theorem dX1_above_0 : decode cX1_above 0 = .ok (.aload_n 0, 1) := dk_42 (dk_at dksX1_above_0 0 rfl rfl)
theorem dX1_above_1 : decode cX1_above 1 = .ok (.getfield 111, 3) := dk_180 0 111 (dk_at dksX1_above_0 1 rfl rfl)
theorem dX1_above_4 : decode cX1_above 4 = .ok (.getfield 136, 3) := dk_180 0 136 (dk_at dksX1_above_0 4 rfl rfl)
theorem dX1_above_7 : decode cX1_above 7 = .ok (.astore_n 2, 1) := dk_77 (dk_at dksX1_above_0 7 rfl rfl)
theorem dX1_above_8 : decode cX1_above 8 = .ok (.aload_n 0, 1) := dk_42 (dk_at dksX1_above_0 8 rfl rfl)
theorem dX1_above_9 : decode cX1_above 9 = .ok (.lconst 0, 1) := dk_9 (dk_at dksX1_above_0 9 rfl rfl)
theorem dX1_above_10 : decode cX1_above 10 = .ok (.putfield 344, 3) := dk_181 1 88 (dk_at dksX1_above_0 10 rfl rfl)
theorem dX1_above_13 : decode cX1_above 13 = .ok (.aload_n 2, 1) := dk_44 (dk_at dksX1_above_0 13 rfl rfl)
theorem dX1_above_14 : decode cX1_above 14 = .ok (.lconst 0, 1) := dk_9 (dk_at dksX1_above_0 14 rfl rfl)
theorem dX1_above_15 : decode cX1_above 15 = .ok (.lconst 0, 1) := dk_9 (dk_at dksX1_above_0 15 rfl rfl)
theorem dX1_above_16 : decode cX1_above 16 = .ok (.invokevirtual 140, 3) := dk_182 0 140 (dk_at dksX1_above_0 16 rfl rfl)
theorem dX1_above_19 : decode cX1_above 19 = .ok (.istore_n 3, 1) := dk_62 (dk_at dksX1_above_0 19 rfl rfl)
theorem dX1_above_20 : decode cX1_above 20 = .ok (.iload_n 3, 1) := dk_29 (dk_at dksX1_above_0 20 rfl rfl)
theorem dX1_above_21 : decode cX1_above 21 = .ok (.ifCond .eq 96, 3) := dk_153 0 96 (dk_at dksX1_above_0 21 rfl rfl)
theorem dX1_above_24 : decode cX1_above 24 = .ok (.aload_n 2, 1) := dk_44 (dk_at dksX1_above_1 0 rfl rfl)
theorem dX1_above_25 : decode cX1_above 25 = .ok (.getfield 149, 3) := dk_180 0 149 (dk_at dksX1_above_1 1 rfl rfl)
theorem dX1_above_28 : decode cX1_above 28 = .ok (.ldc2_w 18, 3) := dk_20 0 18 (dk_at dksX1_above_1 4 rfl rfl)
theorem dX1_above_31 : decode cX1_above 31 = .ok (.lrem, 1) := dk_113 (dk_at dksX1_above_1 7 rfl rfl)
theorem dX1_above_32 : decode cX1_above 32 = .ok (.ldc2_w 338, 3) := dk_20 1 82 (dk_at dksX1_above_1 8 rfl rfl)
theorem dX1_above_35 : decode cX1_above 35 = .ok (.lcmp, 1) := dk_148 (dk_at dksX1_above_1 11 rfl rfl)
theorem dX1_above_36 : decode cX1_above 36 = .ok (.ifCond .eq 6, 3) := dk_153 0 6 (dk_at dksX1_above_1 12 rfl rfl)
theorem dX1_above_39 : decode cX1_above 39 = .ok (.goto 70, 3) := dk_167 0 70 (dk_at dksX1_above_1 15 rfl rfl)
theorem dX1_above_42 : decode cX1_above 42 = .ok (.aload_n 0, 1) := dk_42 (dk_at dksX1_above_1 18 rfl rfl)
theorem dX1_above_43 : decode cX1_above 43 = .ok (.getfield 111, 3) := dk_180 0 111 (dk_at dksX1_above_1 19 rfl rfl)
theorem dX1_above_46 : decode cX1_above 46 = .ok (.aload_n 2, 1) := dk_44 (dk_at dksX1_above_1 22 rfl rfl)
theorem dX1_above_47 : decode cX1_above 47 = .ok (.getfield 164, 3) := dk_180 0 164 (dk_at dksX1_above_2 0 rfl rfl)
theorem dX1_above_50 : decode cX1_above 50 = .ok (.aload_n 2, 1) := dk_44 (dk_at dksX1_above_2 3 rfl rfl)
theorem dX1_above_51 : decode cX1_above 51 = .ok (.getfield 167, 3) := dk_180 0 167 (dk_at dksX1_above_2 4 rfl rfl)
theorem dX1_above_54 : decode cX1_above 54 = .ok (.aload_n 2, 1) := dk_44 (dk_at dksX1_above_2 7 rfl rfl)
theorem dX1_above_55 : decode cX1_above 55 = .ok (.getfield 146, 3) := dk_180 0 146 (dk_at dksX1_above_2 8 rfl rfl)
theorem dX1_above_58 : decode cX1_above 58 = .ok (.aload_n 0, 1) := dk_42 (dk_at dksX1_above_2 11 rfl rfl)
theorem dX1_above_59 : decode cX1_above 59 = .ok (.getfield 111, 3) := dk_180 0 111 (dk_at dksX1_above_2 12 rfl rfl)
theorem dX1_above_62 : decode cX1_above 62 = .ok (.getfield 170, 3) := dk_180 0 170 (dk_at dksX1_above_2 15 rfl rfl)
theorem dX1_above_65 : decode cX1_above 65 = .ok (.invokevirtual 173, 3) := dk_182 0 173 (dk_at dksX1_above_2 18 rfl rfl)
theorem dX1_above_68 : decode cX1_above 68 = .ok (.aload_n 0, 1) := dk_42 (dk_at dksX1_above_2 21 rfl rfl)
theorem dX1_above_69 : decode cX1_above 69 = .ok (.getfield 111, 3) := dk_180 0 111 (dk_at dksX1_above_3 0 rfl rfl)
theorem dX1_above_72 : decode cX1_above 72 = .ok (.getfield 170, 3) := dk_180 0 170 (dk_at dksX1_above_3 3 rfl rfl)
theorem dX1_above_75 : decode cX1_above 75 = .ok (.iconst 4, 1) := dk_7 (dk_at dksX1_above_3 6 rfl rfl)
theorem dX1_above_76 : decode cX1_above 76 = .ok (.invokevirtual 178, 3) := dk_182 0 178 (dk_at dksX1_above_3 7 rfl rfl)
theorem dX1_above_79 : decode cX1_above 79 = .ok (.iload_n 1, 1) := dk_27 (dk_at dksX1_above_3 10 rfl rfl)
theorem dX1_above_80 : decode cX1_above 80 = .ok (.if_icmp .ne 29, 3) := dk_160 0 29 (dk_at dksX1_above_3 11 rfl rfl)
theorem dX1_above_83 : decode cX1_above 83 = .ok (.aload_n 0, 1) := dk_42 (dk_at dksX1_above_3 14 rfl rfl)
theorem dX1_above_84 : decode cX1_above 84 = .ok (.aload_n 0, 1) := dk_42 (dk_at dksX1_above_3 15 rfl rfl)
theorem dX1_above_85 : decode cX1_above 85 = .ok (.getfield 111, 3) := dk_180 0 111 (dk_at dksX1_above_3 16 rfl rfl)
theorem dX1_above_88 : decode cX1_above 88 = .ok (.getfield 170, 3) := dk_180 0 170 (dk_at dksX1_above_3 19 rfl rfl)
theorem dX1_above_91 : decode cX1_above 91 = .ok (.bipush 8, 2) := dk_16 8 (dk_at dksX1_above_3 22 rfl rfl)
theorem dX1_above_93 : decode cX1_above 93 = .ok (.invokevirtual 210, 3) := dk_182 0 210 (dk_at dksX1_above_4 0 rfl rfl)
theorem dX1_above_96 : decode cX1_above 96 = .ok (.putfield 344, 3) := dk_181 1 88 (dk_at dksX1_above_4 3 rfl rfl)
theorem dX1_above_99 : decode cX1_above 99 = .ok (.aload_n 2, 1) := dk_44 (dk_at dksX1_above_4 6 rfl rfl)
theorem dX1_above_100 : decode cX1_above 100 = .ok (.getfield 149, 3) := dk_180 0 149 (dk_at dksX1_above_4 7 rfl rfl)
theorem dX1_above_103 : decode cX1_above 103 = .ok (.ldc2_w 18, 3) := dk_20 0 18 (dk_at dksX1_above_4 10 rfl rfl)
theorem dX1_above_106 : decode cX1_above 106 = .ok (.ldiv, 1) := dk_109 (dk_at dksX1_above_4 13 rfl rfl)
theorem dX1_above_107 : decode cX1_above 107 = .ok (.l2i, 1) := dk_136 (dk_at dksX1_above_4 14 rfl rfl)
theorem dX1_above_108 : decode cX1_above 108 = .ok (.ireturn, 1) := dk_172 (dk_at dksX1_above_4 15 rfl rfl)
theorem dX1_above_109 : decode cX1_above 109 = .ok (.aload_n 2, 1) := dk_44 (dk_at dksX1_above_4 16 rfl rfl)
theorem dX1_above_110 : decode cX1_above 110 = .ok (.invokevirtual 153, 3) := dk_182 0 153 (dk_at dksX1_above_4 17 rfl rfl)
theorem dX1_above_113 : decode cX1_above 113 = .ok (.istore_n 3, 1) := dk_62 (dk_at dksX1_above_4 20 rfl rfl)
theorem dX1_above_114 : decode cX1_above 114 = .ok (.goto (-94), 3) := dk_167 255 162 (dk_at dksX1_above_4 21 rfl rfl)
theorem dX1_above_117 : decode cX1_above 117 = .ok (.iconst 1, 1) := dk_4 (dk_at dksX1_above_5 0 rfl rfl)
theorem dX1_above_118 : decode cX1_above 118 = .ok (.ireturn, 1) := dk_172 (dk_at dksX1_above_5 1 rfl rfl)
abbrev cX1_piece : ByteArray := prog_1_method_63_code
def yX1_piece : MethodName := ⟨RX1, "piece", "(II)I"⟩
def dkwX1_piece_3 : List UInt8 := [180, 1, 121, 16, 32, 42, 180, 0, 47, 3, 21, 4, 184, 1, 44, 21, 4, 172]
abbrev dktX1_piece_3 : List UInt8 := dkwX1_piece_3 ++ []
def dkwX1_piece_2 : List UInt8 := [42, 180, 0, 44, 182, 0, 173, 42, 180, 0, 44, 7, 182, 0, 178, 16, 16, 124, 54, 4, 42, 180, 0, 44]
abbrev dktX1_piece_2 : List UInt8 := dkwX1_piece_2 ++ dktX1_piece_3
def dkwX1_piece_1 : List UInt8 := [182, 0, 161, 154, 0, 5, 3, 172, 42, 180, 0, 111, 45, 180, 0, 164, 45, 180, 0, 167, 45, 180, 0, 146]
abbrev dktX1_piece_1 : List UInt8 := dkwX1_piece_1 ++ dktX1_piece_2
def dkwX1_piece_0 : List UInt8 := [42, 180, 0, 47, 3, 184, 1, 115, 42, 180, 0, 111, 180, 0, 136, 78, 45, 27, 4, 184, 0, 157, 28, 133]
abbrev dktX1_piece_0 : List UInt8 := dkwX1_piece_0 ++ dktX1_piece_1
theorem dksX1_piece_0 : cX1_piece.data.toList.drop 0 = dktX1_piece_0 := by decide +kernel
theorem dksX1_piece_1 : cX1_piece.data.toList.drop 24 = dktX1_piece_1 := dk_seg dksX1_piece_0 24 rfl rfl
theorem dksX1_piece_2 : cX1_piece.data.toList.drop 48 = dktX1_piece_2 := dk_seg dksX1_piece_1 24 rfl rfl
theorem dksX1_piece_3 : cX1_piece.data.toList.drop 72 = dktX1_piece_3 := dk_seg dksX1_piece_2 24 rfl rfl
theorem dX1_piece_0 : decode cX1_piece 0 = .ok (.aload_n 0, 1) := dk_42 (dk_at dksX1_piece_0 0 rfl rfl)
theorem dX1_piece_1 : decode cX1_piece 1 = .ok (.getfield 47, 3) := dk_180 0 47 (dk_at dksX1_piece_0 1 rfl rfl)
theorem dX1_piece_4 : decode cX1_piece 4 = .ok (.iconst 0, 1) := dk_3 (dk_at dksX1_piece_0 4 rfl rfl)
theorem dX1_piece_5 : decode cX1_piece 5 = .ok (.invokestatic 371, 3) := dk_184 1 115 (dk_at dksX1_piece_0 5 rfl rfl)
theorem dX1_piece_8 : decode cX1_piece 8 = .ok (.aload_n 0, 1) := dk_42 (dk_at dksX1_piece_0 8 rfl rfl)
theorem dX1_piece_9 : decode cX1_piece 9 = .ok (.getfield 111, 3) := dk_180 0 111 (dk_at dksX1_piece_0 9 rfl rfl)
theorem dX1_piece_12 : decode cX1_piece 12 = .ok (.getfield 136, 3) := dk_180 0 136 (dk_at dksX1_piece_0 12 rfl rfl)
theorem dX1_piece_15 : decode cX1_piece 15 = .ok (.astore_n 3, 1) := dk_78 (dk_at dksX1_piece_0 15 rfl rfl)
theorem dX1_piece_16 : decode cX1_piece 16 = .ok (.aload_n 3, 1) := dk_45 (dk_at dksX1_piece_0 16 rfl rfl)
theorem dX1_piece_17 : decode cX1_piece 17 = .ok (.iload_n 1, 1) := dk_27 (dk_at dksX1_piece_0 17 rfl rfl)
theorem dX1_piece_18 : decode cX1_piece 18 = .ok (.iconst 1, 1) := dk_4 (dk_at dksX1_piece_0 18 rfl rfl)
theorem dX1_piece_19 : decode cX1_piece 19 = .ok (.invokestatic 157, 3) := dk_184 0 157 (dk_at dksX1_piece_0 19 rfl rfl)
theorem dX1_piece_22 : decode cX1_piece 22 = .ok (.iload_n 2, 1) := dk_28 (dk_at dksX1_piece_0 22 rfl rfl)
theorem dX1_piece_23 : decode cX1_piece 23 = .ok (.i2l, 1) := dk_133 (dk_at dksX1_piece_0 23 rfl rfl)
theorem dX1_piece_24 : decode cX1_piece 24 = .ok (.invokevirtual 161, 3) := dk_182 0 161 (dk_at dksX1_piece_1 0 rfl rfl)
theorem dX1_piece_27 : decode cX1_piece 27 = .ok (.ifCond .ne 5, 3) := dk_154 0 5 (dk_at dksX1_piece_1 3 rfl rfl)
theorem dX1_piece_30 : decode cX1_piece 30 = .ok (.iconst 0, 1) := dk_3 (dk_at dksX1_piece_1 6 rfl rfl)
theorem dX1_piece_31 : decode cX1_piece 31 = .ok (.ireturn, 1) := dk_172 (dk_at dksX1_piece_1 7 rfl rfl)
theorem dX1_piece_32 : decode cX1_piece 32 = .ok (.aload_n 0, 1) := dk_42 (dk_at dksX1_piece_1 8 rfl rfl)
theorem dX1_piece_33 : decode cX1_piece 33 = .ok (.getfield 111, 3) := dk_180 0 111 (dk_at dksX1_piece_1 9 rfl rfl)
theorem dX1_piece_36 : decode cX1_piece 36 = .ok (.aload_n 3, 1) := dk_45 (dk_at dksX1_piece_1 12 rfl rfl)
theorem dX1_piece_37 : decode cX1_piece 37 = .ok (.getfield 164, 3) := dk_180 0 164 (dk_at dksX1_piece_1 13 rfl rfl)
theorem dX1_piece_40 : decode cX1_piece 40 = .ok (.aload_n 3, 1) := dk_45 (dk_at dksX1_piece_1 16 rfl rfl)
theorem dX1_piece_41 : decode cX1_piece 41 = .ok (.getfield 167, 3) := dk_180 0 167 (dk_at dksX1_piece_1 17 rfl rfl)
theorem dX1_piece_44 : decode cX1_piece 44 = .ok (.aload_n 3, 1) := dk_45 (dk_at dksX1_piece_1 20 rfl rfl)
theorem dX1_piece_45 : decode cX1_piece 45 = .ok (.getfield 146, 3) := dk_180 0 146 (dk_at dksX1_piece_1 21 rfl rfl)
theorem dX1_piece_48 : decode cX1_piece 48 = .ok (.aload_n 0, 1) := dk_42 (dk_at dksX1_piece_2 0 rfl rfl)
theorem dX1_piece_49 : decode cX1_piece 49 = .ok (.getfield 44, 3) := dk_180 0 44 (dk_at dksX1_piece_2 1 rfl rfl)
theorem dX1_piece_52 : decode cX1_piece 52 = .ok (.invokevirtual 173, 3) := dk_182 0 173 (dk_at dksX1_piece_2 4 rfl rfl)
theorem dX1_piece_55 : decode cX1_piece 55 = .ok (.aload_n 0, 1) := dk_42 (dk_at dksX1_piece_2 7 rfl rfl)
theorem dX1_piece_56 : decode cX1_piece 56 = .ok (.getfield 44, 3) := dk_180 0 44 (dk_at dksX1_piece_2 8 rfl rfl)
theorem dX1_piece_59 : decode cX1_piece 59 = .ok (.iconst 4, 1) := dk_7 (dk_at dksX1_piece_2 11 rfl rfl)
theorem dX1_piece_60 : decode cX1_piece 60 = .ok (.invokevirtual 178, 3) := dk_182 0 178 (dk_at dksX1_piece_2 12 rfl rfl)
theorem dX1_piece_63 : decode cX1_piece 63 = .ok (.bipush 16, 2) := dk_16 16 (dk_at dksX1_piece_2 15 rfl rfl)
theorem dX1_piece_65 : decode cX1_piece 65 = .ok (.iushr, 1) := dk_124 (dk_at dksX1_piece_2 17 rfl rfl)
theorem dX1_piece_66 : decode cX1_piece 66 = .ok (.istore 4, 2) := dk_54 4 (dk_at dksX1_piece_2 18 rfl rfl)
theorem dX1_piece_68 : decode cX1_piece 68 = .ok (.aload_n 0, 1) := dk_42 (dk_at dksX1_piece_2 20 rfl rfl)
theorem dX1_piece_69 : decode cX1_piece 69 = .ok (.getfield 44, 3) := dk_180 0 44 (dk_at dksX1_piece_2 21 rfl rfl)
theorem dX1_piece_72 : decode cX1_piece 72 = .ok (.getfield 377, 3) := dk_180 1 121 (dk_at dksX1_piece_3 0 rfl rfl)
theorem dX1_piece_75 : decode cX1_piece 75 = .ok (.bipush 32, 2) := dk_16 32 (dk_at dksX1_piece_3 3 rfl rfl)
theorem dX1_piece_77 : decode cX1_piece 77 = .ok (.aload_n 0, 1) := dk_42 (dk_at dksX1_piece_3 5 rfl rfl)
theorem dX1_piece_78 : decode cX1_piece 78 = .ok (.getfield 47, 3) := dk_180 0 47 (dk_at dksX1_piece_3 6 rfl rfl)
theorem dX1_piece_81 : decode cX1_piece 81 = .ok (.iconst 0, 1) := dk_3 (dk_at dksX1_piece_3 9 rfl rfl)
theorem dX1_piece_82 : decode cX1_piece 82 = .ok (.iload 4, 2) := dk_21 4 (dk_at dksX1_piece_3 10 rfl rfl)
theorem dX1_piece_84 : decode cX1_piece 84 = .ok (.invokestatic 300, 3) := dk_184 1 44 (dk_at dksX1_piece_3 12 rfl rfl)
theorem dX1_piece_87 : decode cX1_piece 87 = .ok (.iload 4, 2) := dk_21 4 (dk_at dksX1_piece_3 15 rfl rfl)
theorem dX1_piece_89 : decode cX1_piece 89 = .ok (.ireturn, 1) := dk_172 (dk_at dksX1_piece_3 17 rfl rfl)
abbrev cX1_path : ByteArray := prog_1_method_46_code
def yX1_path : MethodName := ⟨RX1, "path", "(I)I"⟩
def dkwX1_path_7 : List UInt8 := [42, 180, 0, 83, 3, 42, 180, 1, 22, 184, 1, 44, 42, 180, 1, 22, 172]
abbrev dktX1_path_7 : List UInt8 := dkwX1_path_7 ++ []
def dkwX1_path_6 : List UInt8 := [180, 0, 86, 132, 3, 255, 29, 16, 47, 84, 42, 17, 4, 0, 29, 100, 181, 1, 22, 42, 180, 0, 86, 29]
abbrev dktX1_path_6 : List UInt8 := dkwX1_path_6 ++ dktX1_path_7
def dkwX1_path_5 : List UInt8 := [17, 0, 200, 164, 0, 6, 16, 246, 172, 21, 5, 54, 4, 167, 255, 158, 29, 17, 4, 0, 160, 0, 14, 42]
abbrev dktX1_path_5 : List UInt8 := dkwX1_path_5 ++ dktX1_path_6
def dkwX1_path_4 : List UInt8 := [84, 132, 6, 255, 167, 255, 208, 42, 180, 0, 86, 132, 3, 255, 29, 16, 47, 84, 17, 4, 0, 29, 100]
abbrev dktX1_path_4 : List UInt8 := dkwX1_path_4 ++ dktX1_path_5
def dkwX1_path_3 : List UInt8 := [148, 153, 0, 24, 42, 180, 0, 86, 132, 3, 255, 29, 42, 180, 1, 88, 16, 8, 21, 6, 104, 125, 136, 145]
abbrev dktX1_path_3 : List UInt8 := dkwX1_path_3 ++ dktX1_path_4
def dkwX1_path_2 : List UInt8 := [16, 7, 54, 6, 21, 6, 155, 0, 49, 42, 180, 1, 88, 16, 8, 21, 6, 104, 125, 20, 0, 195, 127, 9]
abbrev dktX1_path_2 : List UInt8 := dkwX1_path_2 ++ dktX1_path_3
def dkwX1_path_1 : List UInt8 := [28, 172, 17, 4, 0, 62, 27, 54, 4, 21, 4, 4, 159, 0, 98, 42, 21, 4, 182, 1, 97, 54, 5]
abbrev dktX1_path_1 : List UInt8 := dkwX1_path_1 ++ dktX1_path_2
def dkwX1_path_0 : List UInt8 := [42, 180, 0, 28, 154, 0, 6, 16, 254, 172, 42, 27, 42, 180, 0, 54, 182, 1, 25, 61, 28, 156, 0, 5]
abbrev dktX1_path_0 : List UInt8 := dkwX1_path_0 ++ dktX1_path_1
theorem dksX1_path_0 : cX1_path.data.toList.drop 0 = dktX1_path_0 := by decide +kernel
theorem dksX1_path_1 : cX1_path.data.toList.drop 24 = dktX1_path_1 := dk_seg dksX1_path_0 24 rfl rfl
theorem dksX1_path_2 : cX1_path.data.toList.drop 47 = dktX1_path_2 := dk_seg dksX1_path_1 23 rfl rfl
theorem dksX1_path_3 : cX1_path.data.toList.drop 71 = dktX1_path_3 := dk_seg dksX1_path_2 24 rfl rfl
theorem dksX1_path_4 : cX1_path.data.toList.drop 95 = dktX1_path_4 := dk_seg dksX1_path_3 24 rfl rfl
theorem dksX1_path_5 : cX1_path.data.toList.drop 118 = dktX1_path_5 := dk_seg dksX1_path_4 23 rfl rfl
theorem dksX1_path_6 : cX1_path.data.toList.drop 142 = dktX1_path_6 := dk_seg dksX1_path_5 24 rfl rfl
theorem dksX1_path_7 : cX1_path.data.toList.drop 166 = dktX1_path_7 := dk_seg dksX1_path_6 24 rfl rfl
theorem dX1_path_0 : decode cX1_path 0 = .ok (.aload_n 0, 1) := dk_42 (dk_at dksX1_path_0 0 rfl rfl)
theorem dX1_path_1 : decode cX1_path 1 = .ok (.getfield 28, 3) := dk_180 0 28 (dk_at dksX1_path_0 1 rfl rfl)
theorem dX1_path_4 : decode cX1_path 4 = .ok (.ifCond .ne 6, 3) := dk_154 0 6 (dk_at dksX1_path_0 4 rfl rfl)
theorem dX1_path_7 : decode cX1_path 7 = .ok (.bipush (-2), 2) := dk_16 254 (dk_at dksX1_path_0 7 rfl rfl)
theorem dX1_path_9 : decode cX1_path 9 = .ok (.ireturn, 1) := dk_172 (dk_at dksX1_path_0 9 rfl rfl)
theorem dX1_path_10 : decode cX1_path 10 = .ok (.aload_n 0, 1) := dk_42 (dk_at dksX1_path_0 10 rfl rfl)
theorem dX1_path_11 : decode cX1_path 11 = .ok (.iload_n 1, 1) := dk_27 (dk_at dksX1_path_0 11 rfl rfl)
theorem dX1_path_12 : decode cX1_path 12 = .ok (.aload_n 0, 1) := dk_42 (dk_at dksX1_path_0 12 rfl rfl)
theorem dX1_path_13 : decode cX1_path 13 = .ok (.getfield 54, 3) := dk_180 0 54 (dk_at dksX1_path_0 13 rfl rfl)
theorem dX1_path_16 : decode cX1_path 16 = .ok (.invokevirtual 281, 3) := dk_182 1 25 (dk_at dksX1_path_0 16 rfl rfl)
theorem dX1_path_19 : decode cX1_path 19 = .ok (.istore_n 2, 1) := dk_61 (dk_at dksX1_path_0 19 rfl rfl)
theorem dX1_path_20 : decode cX1_path 20 = .ok (.iload_n 2, 1) := dk_28 (dk_at dksX1_path_0 20 rfl rfl)
theorem dX1_path_21 : decode cX1_path 21 = .ok (.ifCond .ge 5, 3) := dk_156 0 5 (dk_at dksX1_path_0 21 rfl rfl)
theorem dX1_path_24 : decode cX1_path 24 = .ok (.iload_n 2, 1) := dk_28 (dk_at dksX1_path_1 0 rfl rfl)
theorem dX1_path_25 : decode cX1_path 25 = .ok (.ireturn, 1) := dk_172 (dk_at dksX1_path_1 1 rfl rfl)
theorem dX1_path_26 : decode cX1_path 26 = .ok (.sipush 1024, 3) := dk_17 4 0 (dk_at dksX1_path_1 2 rfl rfl)
theorem dX1_path_29 : decode cX1_path 29 = .ok (.istore_n 3, 1) := dk_62 (dk_at dksX1_path_1 5 rfl rfl)
theorem dX1_path_30 : decode cX1_path 30 = .ok (.iload_n 1, 1) := dk_27 (dk_at dksX1_path_1 6 rfl rfl)
theorem dX1_path_31 : decode cX1_path 31 = .ok (.istore 4, 2) := dk_54 4 (dk_at dksX1_path_1 7 rfl rfl)
theorem dX1_path_33 : decode cX1_path 33 = .ok (.iload 4, 2) := dk_21 4 (dk_at dksX1_path_1 9 rfl rfl)
theorem dX1_path_35 : decode cX1_path 35 = .ok (.iconst 1, 1) := dk_4 (dk_at dksX1_path_1 11 rfl rfl)
theorem dX1_path_36 : decode cX1_path 36 = .ok (.if_icmp .eq 98, 3) := dk_159 0 98 (dk_at dksX1_path_1 12 rfl rfl)
theorem dX1_path_39 : decode cX1_path 39 = .ok (.aload_n 0, 1) := dk_42 (dk_at dksX1_path_1 15 rfl rfl)
theorem dX1_path_40 : decode cX1_path 40 = .ok (.iload 4, 2) := dk_21 4 (dk_at dksX1_path_1 16 rfl rfl)
theorem dX1_path_42 : decode cX1_path 42 = .ok (.invokevirtual 353, 3) := dk_182 1 97 (dk_at dksX1_path_1 18 rfl rfl)
theorem dX1_path_45 : decode cX1_path 45 = .ok (.istore 5, 2) := dk_54 5 (dk_at dksX1_path_1 21 rfl rfl)
theorem dX1_path_47 : decode cX1_path 47 = .ok (.bipush 7, 2) := dk_16 7 (dk_at dksX1_path_2 0 rfl rfl)
theorem dX1_path_49 : decode cX1_path 49 = .ok (.istore 6, 2) := dk_54 6 (dk_at dksX1_path_2 2 rfl rfl)
theorem dX1_path_51 : decode cX1_path 51 = .ok (.iload 6, 2) := dk_21 6 (dk_at dksX1_path_2 4 rfl rfl)
theorem dX1_path_53 : decode cX1_path 53 = .ok (.ifCond .lt 49, 3) := dk_155 0 49 (dk_at dksX1_path_2 6 rfl rfl)
theorem dX1_path_56 : decode cX1_path 56 = .ok (.aload_n 0, 1) := dk_42 (dk_at dksX1_path_2 9 rfl rfl)
theorem dX1_path_57 : decode cX1_path 57 = .ok (.getfield 344, 3) := dk_180 1 88 (dk_at dksX1_path_2 10 rfl rfl)
theorem dX1_path_60 : decode cX1_path 60 = .ok (.bipush 8, 2) := dk_16 8 (dk_at dksX1_path_2 13 rfl rfl)
theorem dX1_path_62 : decode cX1_path 62 = .ok (.iload 6, 2) := dk_21 6 (dk_at dksX1_path_2 15 rfl rfl)
theorem dX1_path_64 : decode cX1_path 64 = .ok (.imul, 1) := dk_104 (dk_at dksX1_path_2 17 rfl rfl)
theorem dX1_path_65 : decode cX1_path 65 = .ok (.lushr, 1) := dk_125 (dk_at dksX1_path_2 18 rfl rfl)
theorem dX1_path_66 : decode cX1_path 66 = .ok (.ldc2_w 195, 3) := dk_20 0 195 (dk_at dksX1_path_2 19 rfl rfl)
theorem dX1_path_69 : decode cX1_path 69 = .ok (.land, 1) := dk_127 (dk_at dksX1_path_2 22 rfl rfl)
theorem dX1_path_70 : decode cX1_path 70 = .ok (.lconst 0, 1) := dk_9 (dk_at dksX1_path_2 23 rfl rfl)
theorem dX1_path_71 : decode cX1_path 71 = .ok (.lcmp, 1) := dk_148 (dk_at dksX1_path_3 0 rfl rfl)
theorem dX1_path_72 : decode cX1_path 72 = .ok (.ifCond .eq 24, 3) := dk_153 0 24 (dk_at dksX1_path_3 1 rfl rfl)
theorem dX1_path_75 : decode cX1_path 75 = .ok (.aload_n 0, 1) := dk_42 (dk_at dksX1_path_3 4 rfl rfl)
theorem dX1_path_76 : decode cX1_path 76 = .ok (.getfield 86, 3) := dk_180 0 86 (dk_at dksX1_path_3 5 rfl rfl)
theorem dX1_path_79 : decode cX1_path 79 = .ok (.iinc 3 (-1), 3) := dk_132 3 255 (dk_at dksX1_path_3 8 rfl rfl)
theorem dX1_path_82 : decode cX1_path 82 = .ok (.iload_n 3, 1) := dk_29 (dk_at dksX1_path_3 11 rfl rfl)
theorem dX1_path_83 : decode cX1_path 83 = .ok (.aload_n 0, 1) := dk_42 (dk_at dksX1_path_3 12 rfl rfl)
theorem dX1_path_84 : decode cX1_path 84 = .ok (.getfield 344, 3) := dk_180 1 88 (dk_at dksX1_path_3 13 rfl rfl)
theorem dX1_path_87 : decode cX1_path 87 = .ok (.bipush 8, 2) := dk_16 8 (dk_at dksX1_path_3 16 rfl rfl)
theorem dX1_path_89 : decode cX1_path 89 = .ok (.iload 6, 2) := dk_21 6 (dk_at dksX1_path_3 18 rfl rfl)
theorem dX1_path_91 : decode cX1_path 91 = .ok (.imul, 1) := dk_104 (dk_at dksX1_path_3 20 rfl rfl)
theorem dX1_path_92 : decode cX1_path 92 = .ok (.lushr, 1) := dk_125 (dk_at dksX1_path_3 21 rfl rfl)
theorem dX1_path_93 : decode cX1_path 93 = .ok (.l2i, 1) := dk_136 (dk_at dksX1_path_3 22 rfl rfl)
theorem dX1_path_94 : decode cX1_path 94 = .ok (.i2b, 1) := dk_145 (dk_at dksX1_path_3 23 rfl rfl)
theorem dX1_path_95 : decode cX1_path 95 = .ok (.bastore, 1) := dk_84 (dk_at dksX1_path_4 0 rfl rfl)
theorem dX1_path_96 : decode cX1_path 96 = .ok (.iinc 6 (-1), 3) := dk_132 6 255 (dk_at dksX1_path_4 1 rfl rfl)
theorem dX1_path_99 : decode cX1_path 99 = .ok (.goto (-48), 3) := dk_167 255 208 (dk_at dksX1_path_4 4 rfl rfl)
theorem dX1_path_102 : decode cX1_path 102 = .ok (.aload_n 0, 1) := dk_42 (dk_at dksX1_path_4 7 rfl rfl)
theorem dX1_path_103 : decode cX1_path 103 = .ok (.getfield 86, 3) := dk_180 0 86 (dk_at dksX1_path_4 8 rfl rfl)
theorem dX1_path_106 : decode cX1_path 106 = .ok (.iinc 3 (-1), 3) := dk_132 3 255 (dk_at dksX1_path_4 11 rfl rfl)
theorem dX1_path_109 : decode cX1_path 109 = .ok (.iload_n 3, 1) := dk_29 (dk_at dksX1_path_4 14 rfl rfl)
theorem dX1_path_110 : decode cX1_path 110 = .ok (.bipush 47, 2) := dk_16 47 (dk_at dksX1_path_4 15 rfl rfl)
theorem dX1_path_112 : decode cX1_path 112 = .ok (.bastore, 1) := dk_84 (dk_at dksX1_path_4 17 rfl rfl)
theorem dX1_path_113 : decode cX1_path 113 = .ok (.sipush 1024, 3) := dk_17 4 0 (dk_at dksX1_path_4 18 rfl rfl)
theorem dX1_path_116 : decode cX1_path 116 = .ok (.iload_n 3, 1) := dk_29 (dk_at dksX1_path_4 21 rfl rfl)
theorem dX1_path_117 : decode cX1_path 117 = .ok (.isub, 1) := dk_100 (dk_at dksX1_path_4 22 rfl rfl)
theorem dX1_path_118 : decode cX1_path 118 = .ok (.sipush 200, 3) := dk_17 0 200 (dk_at dksX1_path_5 0 rfl rfl)
theorem dX1_path_121 : decode cX1_path 121 = .ok (.if_icmp .le 6, 3) := dk_164 0 6 (dk_at dksX1_path_5 3 rfl rfl)
theorem dX1_path_124 : decode cX1_path 124 = .ok (.bipush (-10), 2) := dk_16 246 (dk_at dksX1_path_5 6 rfl rfl)
theorem dX1_path_126 : decode cX1_path 126 = .ok (.ireturn, 1) := dk_172 (dk_at dksX1_path_5 8 rfl rfl)
theorem dX1_path_127 : decode cX1_path 127 = .ok (.iload 5, 2) := dk_21 5 (dk_at dksX1_path_5 9 rfl rfl)
theorem dX1_path_129 : decode cX1_path 129 = .ok (.istore 4, 2) := dk_54 4 (dk_at dksX1_path_5 11 rfl rfl)
theorem dX1_path_131 : decode cX1_path 131 = .ok (.goto (-98), 3) := dk_167 255 158 (dk_at dksX1_path_5 13 rfl rfl)
theorem dX1_path_134 : decode cX1_path 134 = .ok (.iload_n 3, 1) := dk_29 (dk_at dksX1_path_5 16 rfl rfl)
theorem dX1_path_135 : decode cX1_path 135 = .ok (.sipush 1024, 3) := dk_17 4 0 (dk_at dksX1_path_5 17 rfl rfl)
theorem dX1_path_138 : decode cX1_path 138 = .ok (.if_icmp .ne 14, 3) := dk_160 0 14 (dk_at dksX1_path_5 20 rfl rfl)
theorem dX1_path_141 : decode cX1_path 141 = .ok (.aload_n 0, 1) := dk_42 (dk_at dksX1_path_5 23 rfl rfl)
theorem dX1_path_142 : decode cX1_path 142 = .ok (.getfield 86, 3) := dk_180 0 86 (dk_at dksX1_path_6 0 rfl rfl)
theorem dX1_path_145 : decode cX1_path 145 = .ok (.iinc 3 (-1), 3) := dk_132 3 255 (dk_at dksX1_path_6 3 rfl rfl)
theorem dX1_path_148 : decode cX1_path 148 = .ok (.iload_n 3, 1) := dk_29 (dk_at dksX1_path_6 6 rfl rfl)
theorem dX1_path_149 : decode cX1_path 149 = .ok (.bipush 47, 2) := dk_16 47 (dk_at dksX1_path_6 7 rfl rfl)
theorem dX1_path_151 : decode cX1_path 151 = .ok (.bastore, 1) := dk_84 (dk_at dksX1_path_6 9 rfl rfl)
theorem dX1_path_152 : decode cX1_path 152 = .ok (.aload_n 0, 1) := dk_42 (dk_at dksX1_path_6 10 rfl rfl)
theorem dX1_path_153 : decode cX1_path 153 = .ok (.sipush 1024, 3) := dk_17 4 0 (dk_at dksX1_path_6 11 rfl rfl)
theorem dX1_path_156 : decode cX1_path 156 = .ok (.iload_n 3, 1) := dk_29 (dk_at dksX1_path_6 14 rfl rfl)
theorem dX1_path_157 : decode cX1_path 157 = .ok (.isub, 1) := dk_100 (dk_at dksX1_path_6 15 rfl rfl)
theorem dX1_path_158 : decode cX1_path 158 = .ok (.putfield 278, 3) := dk_181 1 22 (dk_at dksX1_path_6 16 rfl rfl)
theorem dX1_path_161 : decode cX1_path 161 = .ok (.aload_n 0, 1) := dk_42 (dk_at dksX1_path_6 19 rfl rfl)
theorem dX1_path_162 : decode cX1_path 162 = .ok (.getfield 86, 3) := dk_180 0 86 (dk_at dksX1_path_6 20 rfl rfl)
theorem dX1_path_165 : decode cX1_path 165 = .ok (.iload_n 3, 1) := dk_29 (dk_at dksX1_path_6 23 rfl rfl)
theorem dX1_path_166 : decode cX1_path 166 = .ok (.aload_n 0, 1) := dk_42 (dk_at dksX1_path_7 0 rfl rfl)
theorem dX1_path_167 : decode cX1_path 167 = .ok (.getfield 83, 3) := dk_180 0 83 (dk_at dksX1_path_7 1 rfl rfl)
theorem dX1_path_170 : decode cX1_path 170 = .ok (.iconst 0, 1) := dk_3 (dk_at dksX1_path_7 4 rfl rfl)
theorem dX1_path_171 : decode cX1_path 171 = .ok (.aload_n 0, 1) := dk_42 (dk_at dksX1_path_7 5 rfl rfl)
theorem dX1_path_172 : decode cX1_path 172 = .ok (.getfield 278, 3) := dk_180 1 22 (dk_at dksX1_path_7 6 rfl rfl)
theorem dX1_path_175 : decode cX1_path 175 = .ok (.invokestatic 300, 3) := dk_184 1 44 (dk_at dksX1_path_7 9 rfl rfl)
theorem dX1_path_178 : decode cX1_path 178 = .ok (.aload_n 0, 1) := dk_42 (dk_at dksX1_path_7 12 rfl rfl)
theorem dX1_path_179 : decode cX1_path 179 = .ok (.getfield 278, 3) := dk_180 1 22 (dk_at dksX1_path_7 13 rfl rfl)
theorem dX1_path_182 : decode cX1_path 182 = .ok (.ireturn, 1) := dk_172 (dk_at dksX1_path_7 16 rfl rfl)
abbrev cX1_taped : ByteArray := prog_1_method_47_code
def yX1_taped : MethodName := ⟨RX1, "taped", "(I)I"⟩
def dkwX1_taped_1 : List UInt8 := [153, 0, 16, 42, 180, 0, 83, 27, 51, 17, 0, 255, 126, 167, 0, 4, 2, 172]
abbrev dktX1_taped_1 : List UInt8 := dkwX1_taped_1 ++ []
def dkwX1_taped_0 : List UInt8 := [42, 180, 0, 28, 154, 0, 8, 16, 254, 167, 0, 31, 27, 3, 42, 180, 1, 22, 4, 100, 184, 0, 89]
abbrev dktX1_taped_0 : List UInt8 := dkwX1_taped_0 ++ dktX1_taped_1
theorem dksX1_taped_0 : cX1_taped.data.toList.drop 0 = dktX1_taped_0 := by decide +kernel
theorem dksX1_taped_1 : cX1_taped.data.toList.drop 23 = dktX1_taped_1 := dk_seg dksX1_taped_0 23 rfl rfl
theorem dX1_taped_0 : decode cX1_taped 0 = .ok (.aload_n 0, 1) := dk_42 (dk_at dksX1_taped_0 0 rfl rfl)
theorem dX1_taped_1 : decode cX1_taped 1 = .ok (.getfield 28, 3) := dk_180 0 28 (dk_at dksX1_taped_0 1 rfl rfl)
theorem dX1_taped_4 : decode cX1_taped 4 = .ok (.ifCond .ne 8, 3) := dk_154 0 8 (dk_at dksX1_taped_0 4 rfl rfl)
theorem dX1_taped_7 : decode cX1_taped 7 = .ok (.bipush (-2), 2) := dk_16 254 (dk_at dksX1_taped_0 7 rfl rfl)
theorem dX1_taped_9 : decode cX1_taped 9 = .ok (.goto 31, 3) := dk_167 0 31 (dk_at dksX1_taped_0 9 rfl rfl)
theorem dX1_taped_12 : decode cX1_taped 12 = .ok (.iload_n 1, 1) := dk_27 (dk_at dksX1_taped_0 12 rfl rfl)
theorem dX1_taped_13 : decode cX1_taped 13 = .ok (.iconst 0, 1) := dk_3 (dk_at dksX1_taped_0 13 rfl rfl)
theorem dX1_taped_14 : decode cX1_taped 14 = .ok (.aload_n 0, 1) := dk_42 (dk_at dksX1_taped_0 14 rfl rfl)
theorem dX1_taped_15 : decode cX1_taped 15 = .ok (.getfield 278, 3) := dk_180 1 22 (dk_at dksX1_taped_0 15 rfl rfl)
theorem dX1_taped_18 : decode cX1_taped 18 = .ok (.iconst 1, 1) := dk_4 (dk_at dksX1_taped_0 18 rfl rfl)
theorem dX1_taped_19 : decode cX1_taped 19 = .ok (.isub, 1) := dk_100 (dk_at dksX1_taped_0 19 rfl rfl)
theorem dX1_taped_20 : decode cX1_taped 20 = .ok (.invokestatic 89, 3) := dk_184 0 89 (dk_at dksX1_taped_0 20 rfl rfl)
theorem dX1_taped_23 : decode cX1_taped 23 = .ok (.ifCond .eq 16, 3) := dk_153 0 16 (dk_at dksX1_taped_1 0 rfl rfl)
theorem dX1_taped_26 : decode cX1_taped 26 = .ok (.aload_n 0, 1) := dk_42 (dk_at dksX1_taped_1 3 rfl rfl)
theorem dX1_taped_27 : decode cX1_taped 27 = .ok (.getfield 83, 3) := dk_180 0 83 (dk_at dksX1_taped_1 4 rfl rfl)
theorem dX1_taped_30 : decode cX1_taped 30 = .ok (.iload_n 1, 1) := dk_27 (dk_at dksX1_taped_1 7 rfl rfl)
theorem dX1_taped_31 : decode cX1_taped 31 = .ok (.baload, 1) := dk_51 (dk_at dksX1_taped_1 8 rfl rfl)
theorem dX1_taped_32 : decode cX1_taped 32 = .ok (.sipush 255, 3) := dk_17 0 255 (dk_at dksX1_taped_1 9 rfl rfl)
theorem dX1_taped_35 : decode cX1_taped 35 = .ok (.iand, 1) := dk_126 (dk_at dksX1_taped_1 12 rfl rfl)
theorem dX1_taped_36 : decode cX1_taped 36 = .ok (.goto 4, 3) := dk_167 0 4 (dk_at dksX1_taped_1 13 rfl rfl)
theorem dX1_taped_39 : decode cX1_taped 39 = .ok (.iconst (-1), 1) := dk_2 (dk_at dksX1_taped_1 16 rfl rfl)
theorem dX1_taped_40 : decode cX1_taped 40 = .ok (.ireturn, 1) := dk_172 (dk_at dksX1_taped_1 17 rfl rfl)
abbrev cX1_text : ByteArray := prog_1_method_48_code
def yX1_text : MethodName := ⟨RX1, "text", "(II)I"⟩
def dkwX1_text_2 : List UInt8 := [184, 0, 89, 153, 0, 16, 42, 180, 0, 47, 28, 51, 17, 0, 255, 126, 167, 0, 4, 2, 172]
abbrev dktX1_text_2 : List UInt8 := dkwX1_text_2 ++ []
def dkwX1_text_1 : List UInt8 := [180, 0, 54, 180, 0, 182, 6, 159, 0, 6, 16, 252, 172, 28, 3, 42, 27, 3, 182, 1, 100, 4, 100]
abbrev dktX1_text_1 : List UInt8 := dkwX1_text_1 ++ dktX1_text_2
def dkwX1_text_0 : List UInt8 := [42, 180, 0, 28, 154, 0, 6, 16, 254, 172, 42, 27, 42, 180, 0, 54, 182, 0, 214, 153, 0, 14, 42]
abbrev dktX1_text_0 : List UInt8 := dkwX1_text_0 ++ dktX1_text_1
theorem dksX1_text_0 : cX1_text.data.toList.drop 0 = dktX1_text_0 := by decide +kernel
theorem dksX1_text_1 : cX1_text.data.toList.drop 23 = dktX1_text_1 := dk_seg dksX1_text_0 23 rfl rfl
theorem dksX1_text_2 : cX1_text.data.toList.drop 46 = dktX1_text_2 := dk_seg dksX1_text_1 23 rfl rfl
theorem dX1_text_0 : decode cX1_text 0 = .ok (.aload_n 0, 1) := dk_42 (dk_at dksX1_text_0 0 rfl rfl)
theorem dX1_text_1 : decode cX1_text 1 = .ok (.getfield 28, 3) := dk_180 0 28 (dk_at dksX1_text_0 1 rfl rfl)
theorem dX1_text_4 : decode cX1_text 4 = .ok (.ifCond .ne 6, 3) := dk_154 0 6 (dk_at dksX1_text_0 4 rfl rfl)
theorem dX1_text_7 : decode cX1_text 7 = .ok (.bipush (-2), 2) := dk_16 254 (dk_at dksX1_text_0 7 rfl rfl)
theorem dX1_text_9 : decode cX1_text 9 = .ok (.ireturn, 1) := dk_172 (dk_at dksX1_text_0 9 rfl rfl)
theorem dX1_text_10 : decode cX1_text 10 = .ok (.aload_n 0, 1) := dk_42 (dk_at dksX1_text_0 10 rfl rfl)
theorem dX1_text_11 : decode cX1_text 11 = .ok (.iload_n 1, 1) := dk_27 (dk_at dksX1_text_0 11 rfl rfl)
theorem dX1_text_12 : decode cX1_text 12 = .ok (.aload_n 0, 1) := dk_42 (dk_at dksX1_text_0 12 rfl rfl)
theorem dX1_text_13 : decode cX1_text 13 = .ok (.getfield 54, 3) := dk_180 0 54 (dk_at dksX1_text_0 13 rfl rfl)
theorem dX1_text_16 : decode cX1_text 16 = .ok (.invokevirtual 214, 3) := dk_182 0 214 (dk_at dksX1_text_0 16 rfl rfl)
theorem dX1_text_19 : decode cX1_text 19 = .ok (.ifCond .eq 14, 3) := dk_153 0 14 (dk_at dksX1_text_0 19 rfl rfl)
theorem dX1_text_22 : decode cX1_text 22 = .ok (.aload_n 0, 1) := dk_42 (dk_at dksX1_text_0 22 rfl rfl)
theorem dX1_text_23 : decode cX1_text 23 = .ok (.getfield 54, 3) := dk_180 0 54 (dk_at dksX1_text_1 0 rfl rfl)
theorem dX1_text_26 : decode cX1_text 26 = .ok (.getfield 182, 3) := dk_180 0 182 (dk_at dksX1_text_1 3 rfl rfl)
theorem dX1_text_29 : decode cX1_text 29 = .ok (.iconst 3, 1) := dk_6 (dk_at dksX1_text_1 6 rfl rfl)
theorem dX1_text_30 : decode cX1_text 30 = .ok (.if_icmp .eq 6, 3) := dk_159 0 6 (dk_at dksX1_text_1 7 rfl rfl)
theorem dX1_text_33 : decode cX1_text 33 = .ok (.bipush (-4), 2) := dk_16 252 (dk_at dksX1_text_1 10 rfl rfl)
theorem dX1_text_35 : decode cX1_text 35 = .ok (.ireturn, 1) := dk_172 (dk_at dksX1_text_1 12 rfl rfl)
theorem dX1_text_36 : decode cX1_text 36 = .ok (.iload_n 2, 1) := dk_28 (dk_at dksX1_text_1 13 rfl rfl)
theorem dX1_text_37 : decode cX1_text 37 = .ok (.iconst 0, 1) := dk_3 (dk_at dksX1_text_1 14 rfl rfl)
theorem dX1_text_38 : decode cX1_text 38 = .ok (.aload_n 0, 1) := dk_42 (dk_at dksX1_text_1 15 rfl rfl)
theorem dX1_text_39 : decode cX1_text 39 = .ok (.iload_n 1, 1) := dk_27 (dk_at dksX1_text_1 16 rfl rfl)
theorem dX1_text_40 : decode cX1_text 40 = .ok (.iconst 0, 1) := dk_3 (dk_at dksX1_text_1 17 rfl rfl)
theorem dX1_text_41 : decode cX1_text 41 = .ok (.invokevirtual 356, 3) := dk_182 1 100 (dk_at dksX1_text_1 18 rfl rfl)
theorem dX1_text_44 : decode cX1_text 44 = .ok (.iconst 1, 1) := dk_4 (dk_at dksX1_text_1 21 rfl rfl)
theorem dX1_text_45 : decode cX1_text 45 = .ok (.isub, 1) := dk_100 (dk_at dksX1_text_1 22 rfl rfl)
theorem dX1_text_46 : decode cX1_text 46 = .ok (.invokestatic 89, 3) := dk_184 0 89 (dk_at dksX1_text_2 0 rfl rfl)
theorem dX1_text_49 : decode cX1_text 49 = .ok (.ifCond .eq 16, 3) := dk_153 0 16 (dk_at dksX1_text_2 3 rfl rfl)
theorem dX1_text_52 : decode cX1_text 52 = .ok (.aload_n 0, 1) := dk_42 (dk_at dksX1_text_2 6 rfl rfl)
theorem dX1_text_53 : decode cX1_text 53 = .ok (.getfield 47, 3) := dk_180 0 47 (dk_at dksX1_text_2 7 rfl rfl)
theorem dX1_text_56 : decode cX1_text 56 = .ok (.iload_n 2, 1) := dk_28 (dk_at dksX1_text_2 10 rfl rfl)
theorem dX1_text_57 : decode cX1_text 57 = .ok (.baload, 1) := dk_51 (dk_at dksX1_text_2 11 rfl rfl)
theorem dX1_text_58 : decode cX1_text 58 = .ok (.sipush 255, 3) := dk_17 0 255 (dk_at dksX1_text_2 12 rfl rfl)
theorem dX1_text_61 : decode cX1_text 61 = .ok (.iand, 1) := dk_126 (dk_at dksX1_text_2 15 rfl rfl)
theorem dX1_text_62 : decode cX1_text 62 = .ok (.goto 4, 3) := dk_167 0 4 (dk_at dksX1_text_2 16 rfl rfl)
theorem dX1_text_65 : decode cX1_text 65 = .ok (.iconst (-1), 1) := dk_2 (dk_at dksX1_text_2 19 rfl rfl)
theorem dX1_text_66 : decode cX1_text 66 = .ok (.ireturn, 1) := dk_172 (dk_at dksX1_text_2 20 rfl rfl)
abbrev cX1_set : ByteArray := prog_1_method_51_code
def yX1_set : MethodName := ⟨RX1, "set", "(IJJ)I"⟩
def dkwX1_set_5 : List UInt8 := [180, 0, 192, 172]
abbrev dktX1_set_5 : List UInt8 := dkwX1_set_5 ++ []
def dkwX1_set_4 : List UInt8 := [42, 32, 22, 4, 3, 182, 1, 108, 42, 89, 180, 0, 130, 21, 6, 96, 181, 0, 130, 42, 180, 0, 54]
abbrev dktX1_set_4 : List UInt8 := dkwX1_set_4 ++ dktX1_set_5
def dkwX1_set_3 : List UInt8 := [164, 0, 6, 16, 246, 172, 21, 6, 158, 0, 16, 42, 180, 0, 54, 89, 180, 0, 192, 4, 96, 181, 0, 192]
abbrev dktX1_set_3 : List UInt8 := dkwX1_set_3 ++ dktX1_set_4
def dkwX1_set_2 : List UInt8 := [167, 0, 6, 17, 0, 240, 54, 6, 21, 6, 158, 0, 20, 42, 180, 0, 130, 21, 6, 96, 42, 180, 0, 121]
abbrev dktX1_set_2 : List UInt8 := dkwX1_set_2 ++ dktX1_set_3
def dkwX1_set_1 : List UInt8 := [180, 0, 54, 182, 0, 214, 154, 0, 6, 16, 252, 172, 42, 27, 32, 182, 1, 104, 153, 0, 7, 3]
abbrev dktX1_set_1 : List UInt8 := dkwX1_set_1 ++ dktX1_set_2
def dkwX1_set_0 : List UInt8 := [42, 180, 0, 28, 154, 0, 6, 16, 254, 172, 32, 184, 1, 18, 154, 0, 6, 16, 253, 172, 42, 27, 42]
abbrev dktX1_set_0 : List UInt8 := dkwX1_set_0 ++ dktX1_set_1
theorem dksX1_set_0 : cX1_set.data.toList.drop 0 = dktX1_set_0 := by decide +kernel
theorem dksX1_set_1 : cX1_set.data.toList.drop 23 = dktX1_set_1 := dk_seg dksX1_set_0 23 rfl rfl
theorem dksX1_set_2 : cX1_set.data.toList.drop 45 = dktX1_set_2 := dk_seg dksX1_set_1 22 rfl rfl
theorem dksX1_set_3 : cX1_set.data.toList.drop 69 = dktX1_set_3 := dk_seg dksX1_set_2 24 rfl rfl
theorem dksX1_set_4 : cX1_set.data.toList.drop 93 = dktX1_set_4 := dk_seg dksX1_set_3 24 rfl rfl
theorem dksX1_set_5 : cX1_set.data.toList.drop 116 = dktX1_set_5 := dk_seg dksX1_set_4 23 rfl rfl
theorem dX1_set_0 : decode cX1_set 0 = .ok (.aload_n 0, 1) := dk_42 (dk_at dksX1_set_0 0 rfl rfl)
theorem dX1_set_1 : decode cX1_set 1 = .ok (.getfield 28, 3) := dk_180 0 28 (dk_at dksX1_set_0 1 rfl rfl)
theorem dX1_set_4 : decode cX1_set 4 = .ok (.ifCond .ne 6, 3) := dk_154 0 6 (dk_at dksX1_set_0 4 rfl rfl)
theorem dX1_set_7 : decode cX1_set 7 = .ok (.bipush (-2), 2) := dk_16 254 (dk_at dksX1_set_0 7 rfl rfl)
theorem dX1_set_9 : decode cX1_set 9 = .ok (.ireturn, 1) := dk_172 (dk_at dksX1_set_0 9 rfl rfl)
theorem dX1_set_10 : decode cX1_set 10 = .ok (.lload_n 2, 1) := dk_32 (dk_at dksX1_set_0 10 rfl rfl)
theorem dX1_set_11 : decode cX1_set 11 = .ok (.invokestatic 274, 3) := dk_184 1 18 (dk_at dksX1_set_0 11 rfl rfl)
theorem dX1_set_14 : decode cX1_set 14 = .ok (.ifCond .ne 6, 3) := dk_154 0 6 (dk_at dksX1_set_0 14 rfl rfl)
theorem dX1_set_17 : decode cX1_set 17 = .ok (.bipush (-3), 2) := dk_16 253 (dk_at dksX1_set_0 17 rfl rfl)
theorem dX1_set_19 : decode cX1_set 19 = .ok (.ireturn, 1) := dk_172 (dk_at dksX1_set_0 19 rfl rfl)
theorem dX1_set_20 : decode cX1_set 20 = .ok (.aload_n 0, 1) := dk_42 (dk_at dksX1_set_0 20 rfl rfl)
theorem dX1_set_21 : decode cX1_set 21 = .ok (.iload_n 1, 1) := dk_27 (dk_at dksX1_set_0 21 rfl rfl)
theorem dX1_set_22 : decode cX1_set 22 = .ok (.aload_n 0, 1) := dk_42 (dk_at dksX1_set_0 22 rfl rfl)
theorem dX1_set_23 : decode cX1_set 23 = .ok (.getfield 54, 3) := dk_180 0 54 (dk_at dksX1_set_1 0 rfl rfl)
theorem dX1_set_26 : decode cX1_set 26 = .ok (.invokevirtual 214, 3) := dk_182 0 214 (dk_at dksX1_set_1 3 rfl rfl)
theorem dX1_set_29 : decode cX1_set 29 = .ok (.ifCond .ne 6, 3) := dk_154 0 6 (dk_at dksX1_set_1 6 rfl rfl)
theorem dX1_set_32 : decode cX1_set 32 = .ok (.bipush (-4), 2) := dk_16 252 (dk_at dksX1_set_1 9 rfl rfl)
theorem dX1_set_34 : decode cX1_set 34 = .ok (.ireturn, 1) := dk_172 (dk_at dksX1_set_1 11 rfl rfl)
theorem dX1_set_35 : decode cX1_set 35 = .ok (.aload_n 0, 1) := dk_42 (dk_at dksX1_set_1 12 rfl rfl)
theorem dX1_set_36 : decode cX1_set 36 = .ok (.iload_n 1, 1) := dk_27 (dk_at dksX1_set_1 13 rfl rfl)
theorem dX1_set_37 : decode cX1_set 37 = .ok (.lload_n 2, 1) := dk_32 (dk_at dksX1_set_1 14 rfl rfl)
theorem dX1_set_38 : decode cX1_set 38 = .ok (.invokevirtual 360, 3) := dk_182 1 104 (dk_at dksX1_set_1 15 rfl rfl)
theorem dX1_set_41 : decode cX1_set 41 = .ok (.ifCond .eq 7, 3) := dk_153 0 7 (dk_at dksX1_set_1 18 rfl rfl)
theorem dX1_set_44 : decode cX1_set 44 = .ok (.iconst 0, 1) := dk_3 (dk_at dksX1_set_1 21 rfl rfl)
theorem dX1_set_45 : decode cX1_set 45 = .ok (.goto 6, 3) := dk_167 0 6 (dk_at dksX1_set_2 0 rfl rfl)
theorem dX1_set_48 : decode cX1_set 48 = .ok (.sipush 240, 3) := dk_17 0 240 (dk_at dksX1_set_2 3 rfl rfl)
theorem dX1_set_51 : decode cX1_set 51 = .ok (.istore 6, 2) := dk_54 6 (dk_at dksX1_set_2 6 rfl rfl)
theorem dX1_set_53 : decode cX1_set 53 = .ok (.iload 6, 2) := dk_21 6 (dk_at dksX1_set_2 8 rfl rfl)
theorem dX1_set_55 : decode cX1_set 55 = .ok (.ifCond .le 20, 3) := dk_158 0 20 (dk_at dksX1_set_2 10 rfl rfl)
theorem dX1_set_58 : decode cX1_set 58 = .ok (.aload_n 0, 1) := dk_42 (dk_at dksX1_set_2 13 rfl rfl)
theorem dX1_set_59 : decode cX1_set 59 = .ok (.getfield 130, 3) := dk_180 0 130 (dk_at dksX1_set_2 14 rfl rfl)
theorem dX1_set_62 : decode cX1_set 62 = .ok (.iload 6, 2) := dk_21 6 (dk_at dksX1_set_2 17 rfl rfl)
theorem dX1_set_64 : decode cX1_set 64 = .ok (.iadd, 1) := dk_96 (dk_at dksX1_set_2 19 rfl rfl)
theorem dX1_set_65 : decode cX1_set 65 = .ok (.aload_n 0, 1) := dk_42 (dk_at dksX1_set_2 20 rfl rfl)
theorem dX1_set_66 : decode cX1_set 66 = .ok (.getfield 121, 3) := dk_180 0 121 (dk_at dksX1_set_2 21 rfl rfl)
theorem dX1_set_69 : decode cX1_set 69 = .ok (.if_icmp .le 6, 3) := dk_164 0 6 (dk_at dksX1_set_3 0 rfl rfl)
theorem dX1_set_72 : decode cX1_set 72 = .ok (.bipush (-10), 2) := dk_16 246 (dk_at dksX1_set_3 3 rfl rfl)
theorem dX1_set_74 : decode cX1_set 74 = .ok (.ireturn, 1) := dk_172 (dk_at dksX1_set_3 5 rfl rfl)
theorem dX1_set_75 : decode cX1_set 75 = .ok (.iload 6, 2) := dk_21 6 (dk_at dksX1_set_3 6 rfl rfl)
theorem dX1_set_77 : decode cX1_set 77 = .ok (.ifCond .le 16, 3) := dk_158 0 16 (dk_at dksX1_set_3 8 rfl rfl)
theorem dX1_set_80 : decode cX1_set 80 = .ok (.aload_n 0, 1) := dk_42 (dk_at dksX1_set_3 11 rfl rfl)
theorem dX1_set_81 : decode cX1_set 81 = .ok (.getfield 54, 3) := dk_180 0 54 (dk_at dksX1_set_3 12 rfl rfl)
theorem dX1_set_84 : decode cX1_set 84 = .ok (.dup, 1) := dk_89 (dk_at dksX1_set_3 15 rfl rfl)
theorem dX1_set_85 : decode cX1_set 85 = .ok (.getfield 192, 3) := dk_180 0 192 (dk_at dksX1_set_3 16 rfl rfl)
theorem dX1_set_88 : decode cX1_set 88 = .ok (.iconst 1, 1) := dk_4 (dk_at dksX1_set_3 19 rfl rfl)
theorem dX1_set_89 : decode cX1_set 89 = .ok (.iadd, 1) := dk_96 (dk_at dksX1_set_3 20 rfl rfl)
theorem dX1_set_90 : decode cX1_set 90 = .ok (.putfield 192, 3) := dk_181 0 192 (dk_at dksX1_set_3 21 rfl rfl)
theorem dX1_set_93 : decode cX1_set 93 = .ok (.aload_n 0, 1) := dk_42 (dk_at dksX1_set_4 0 rfl rfl)
theorem dX1_set_94 : decode cX1_set 94 = .ok (.lload_n 2, 1) := dk_32 (dk_at dksX1_set_4 1 rfl rfl)
theorem dX1_set_95 : decode cX1_set 95 = .ok (.lload 4, 2) := dk_22 4 (dk_at dksX1_set_4 2 rfl rfl)
theorem dX1_set_97 : decode cX1_set 97 = .ok (.iconst 0, 1) := dk_3 (dk_at dksX1_set_4 4 rfl rfl)
theorem dX1_set_98 : decode cX1_set 98 = .ok (.invokevirtual 364, 3) := dk_182 1 108 (dk_at dksX1_set_4 5 rfl rfl)
theorem dX1_set_101 : decode cX1_set 101 = .ok (.aload_n 0, 1) := dk_42 (dk_at dksX1_set_4 8 rfl rfl)
theorem dX1_set_102 : decode cX1_set 102 = .ok (.dup, 1) := dk_89 (dk_at dksX1_set_4 9 rfl rfl)
theorem dX1_set_103 : decode cX1_set 103 = .ok (.getfield 130, 3) := dk_180 0 130 (dk_at dksX1_set_4 10 rfl rfl)
theorem dX1_set_106 : decode cX1_set 106 = .ok (.iload 6, 2) := dk_21 6 (dk_at dksX1_set_4 13 rfl rfl)
theorem dX1_set_108 : decode cX1_set 108 = .ok (.iadd, 1) := dk_96 (dk_at dksX1_set_4 15 rfl rfl)
theorem dX1_set_109 : decode cX1_set 109 = .ok (.putfield 130, 3) := dk_181 0 130 (dk_at dksX1_set_4 16 rfl rfl)
theorem dX1_set_112 : decode cX1_set 112 = .ok (.aload_n 0, 1) := dk_42 (dk_at dksX1_set_4 19 rfl rfl)
theorem dX1_set_113 : decode cX1_set 113 = .ok (.getfield 54, 3) := dk_180 0 54 (dk_at dksX1_set_4 20 rfl rfl)
theorem dX1_set_116 : decode cX1_set 116 = .ok (.getfield 192, 3) := dk_180 0 192 (dk_at dksX1_set_5 0 rfl rfl)
theorem dX1_set_119 : decode cX1_set 119 = .ok (.ireturn, 1) := dk_172 (dk_at dksX1_set_5 3 rfl rfl)
abbrev cX1_attributeOf : ByteArray := prog_1_method_49_code
def yX1_attributeOf : MethodName := ⟨RX1, "attributeOf", "(IJ)Z"⟩
def dkwX1_attributeOf_2 : List UInt8 := [180, 0, 167, 25, 4, 180, 0, 146, 42, 180, 0, 111, 180, 0, 170, 182, 0, 173, 4, 172]
abbrev dktX1_attributeOf_2 : List UInt8 := dkwX1_attributeOf_2 ++ []
def dkwX1_attributeOf_1 : List UInt8 := [184, 1, 79, 182, 0, 161, 154, 0, 5, 3, 172, 42, 180, 0, 111, 25, 4, 180, 0, 164, 25, 4]
abbrev dktX1_attributeOf_1 : List UInt8 := dkwX1_attributeOf_1 ++ dktX1_attributeOf_2
def dkwX1_attributeOf_0 : List UInt8 := [42, 180, 0, 111, 180, 0, 136, 58, 4, 27, 4, 161, 0, 20, 25, 4, 27, 6, 184, 0, 157, 32]
abbrev dktX1_attributeOf_0 : List UInt8 := dkwX1_attributeOf_0 ++ dktX1_attributeOf_1
theorem dksX1_attributeOf_0 : cX1_attributeOf.data.toList.drop 0 = dktX1_attributeOf_0 := by decide +kernel
theorem dksX1_attributeOf_1 : cX1_attributeOf.data.toList.drop 22 = dktX1_attributeOf_1 := dk_seg dksX1_attributeOf_0 22 rfl rfl
theorem dksX1_attributeOf_2 : cX1_attributeOf.data.toList.drop 44 = dktX1_attributeOf_2 := dk_seg dksX1_attributeOf_1 22 rfl rfl
theorem dX1_attributeOf_0 : decode cX1_attributeOf 0 = .ok (.aload_n 0, 1) := dk_42 (dk_at dksX1_attributeOf_0 0 rfl rfl)
theorem dX1_attributeOf_1 : decode cX1_attributeOf 1 = .ok (.getfield 111, 3) := dk_180 0 111 (dk_at dksX1_attributeOf_0 1 rfl rfl)
theorem dX1_attributeOf_4 : decode cX1_attributeOf 4 = .ok (.getfield 136, 3) := dk_180 0 136 (dk_at dksX1_attributeOf_0 4 rfl rfl)
theorem dX1_attributeOf_7 : decode cX1_attributeOf 7 = .ok (.astore 4, 2) := dk_58 4 (dk_at dksX1_attributeOf_0 7 rfl rfl)
theorem dX1_attributeOf_9 : decode cX1_attributeOf 9 = .ok (.iload_n 1, 1) := dk_27 (dk_at dksX1_attributeOf_0 9 rfl rfl)
theorem dX1_attributeOf_10 : decode cX1_attributeOf 10 = .ok (.iconst 1, 1) := dk_4 (dk_at dksX1_attributeOf_0 10 rfl rfl)
theorem dX1_attributeOf_11 : decode cX1_attributeOf 11 = .ok (.if_icmp .lt 20, 3) := dk_161 0 20 (dk_at dksX1_attributeOf_0 11 rfl rfl)
theorem dX1_attributeOf_14 : decode cX1_attributeOf 14 = .ok (.aload 4, 2) := dk_25 4 (dk_at dksX1_attributeOf_0 14 rfl rfl)
theorem dX1_attributeOf_16 : decode cX1_attributeOf 16 = .ok (.iload_n 1, 1) := dk_27 (dk_at dksX1_attributeOf_0 16 rfl rfl)
theorem dX1_attributeOf_17 : decode cX1_attributeOf 17 = .ok (.iconst 3, 1) := dk_6 (dk_at dksX1_attributeOf_0 17 rfl rfl)
theorem dX1_attributeOf_18 : decode cX1_attributeOf 18 = .ok (.invokestatic 157, 3) := dk_184 0 157 (dk_at dksX1_attributeOf_0 18 rfl rfl)
theorem dX1_attributeOf_21 : decode cX1_attributeOf 21 = .ok (.lload_n 2, 1) := dk_32 (dk_at dksX1_attributeOf_0 21 rfl rfl)
theorem dX1_attributeOf_22 : decode cX1_attributeOf 22 = .ok (.invokestatic 335, 3) := dk_184 1 79 (dk_at dksX1_attributeOf_1 0 rfl rfl)
theorem dX1_attributeOf_25 : decode cX1_attributeOf 25 = .ok (.invokevirtual 161, 3) := dk_182 0 161 (dk_at dksX1_attributeOf_1 3 rfl rfl)
theorem dX1_attributeOf_28 : decode cX1_attributeOf 28 = .ok (.ifCond .ne 5, 3) := dk_154 0 5 (dk_at dksX1_attributeOf_1 6 rfl rfl)
theorem dX1_attributeOf_31 : decode cX1_attributeOf 31 = .ok (.iconst 0, 1) := dk_3 (dk_at dksX1_attributeOf_1 9 rfl rfl)
theorem dX1_attributeOf_32 : decode cX1_attributeOf 32 = .ok (.ireturn, 1) := dk_172 (dk_at dksX1_attributeOf_1 10 rfl rfl)
theorem dX1_attributeOf_33 : decode cX1_attributeOf 33 = .ok (.aload_n 0, 1) := dk_42 (dk_at dksX1_attributeOf_1 11 rfl rfl)
theorem dX1_attributeOf_34 : decode cX1_attributeOf 34 = .ok (.getfield 111, 3) := dk_180 0 111 (dk_at dksX1_attributeOf_1 12 rfl rfl)
theorem dX1_attributeOf_37 : decode cX1_attributeOf 37 = .ok (.aload 4, 2) := dk_25 4 (dk_at dksX1_attributeOf_1 15 rfl rfl)
theorem dX1_attributeOf_39 : decode cX1_attributeOf 39 = .ok (.getfield 164, 3) := dk_180 0 164 (dk_at dksX1_attributeOf_1 17 rfl rfl)
theorem dX1_attributeOf_42 : decode cX1_attributeOf 42 = .ok (.aload 4, 2) := dk_25 4 (dk_at dksX1_attributeOf_1 20 rfl rfl)
theorem dX1_attributeOf_44 : decode cX1_attributeOf 44 = .ok (.getfield 167, 3) := dk_180 0 167 (dk_at dksX1_attributeOf_2 0 rfl rfl)
theorem dX1_attributeOf_47 : decode cX1_attributeOf 47 = .ok (.aload 4, 2) := dk_25 4 (dk_at dksX1_attributeOf_2 3 rfl rfl)
theorem dX1_attributeOf_49 : decode cX1_attributeOf 49 = .ok (.getfield 146, 3) := dk_180 0 146 (dk_at dksX1_attributeOf_2 5 rfl rfl)
theorem dX1_attributeOf_52 : decode cX1_attributeOf 52 = .ok (.aload_n 0, 1) := dk_42 (dk_at dksX1_attributeOf_2 8 rfl rfl)
theorem dX1_attributeOf_53 : decode cX1_attributeOf 53 = .ok (.getfield 111, 3) := dk_180 0 111 (dk_at dksX1_attributeOf_2 9 rfl rfl)
theorem dX1_attributeOf_56 : decode cX1_attributeOf 56 = .ok (.getfield 170, 3) := dk_180 0 170 (dk_at dksX1_attributeOf_2 12 rfl rfl)
theorem dX1_attributeOf_59 : decode cX1_attributeOf 59 = .ok (.invokevirtual 173, 3) := dk_182 0 173 (dk_at dksX1_attributeOf_2 15 rfl rfl)
theorem dX1_attributeOf_62 : decode cX1_attributeOf 62 = .ok (.iconst 1, 1) := dk_4 (dk_at dksX1_attributeOf_2 18 rfl rfl)
theorem dX1_attributeOf_63 : decode cX1_attributeOf 63 = .ok (.ireturn, 1) := dk_172 (dk_at dksX1_attributeOf_2 19 rfl rfl)
abbrev cX1_handAttribute : ByteArray := prog_1_method_50_code
def yX1_handAttribute : MethodName := ⟨RX1, "handAttribute", "(JJZ)V"⟩
def dkwX1_handAttribute_3 : List UInt8 := [182, 1, 10, 42, 182, 1, 54, 177]
abbrev dktX1_handAttribute_3 : List UInt8 := dkwX1_handAttribute_3 ++ []
def dkwX1_handAttribute_2 : List UInt8 := [16, 16, 33, 182, 0, 231, 87, 42, 180, 0, 40, 9, 3, 182, 0, 227, 42, 42, 180, 0, 54, 4]
abbrev dktX1_handAttribute_2 : List UInt8 := dkwX1_handAttribute_2 ++ dktX1_handAttribute_3
def dkwX1_handAttribute_1 : List UInt8 := [182, 0, 224, 7, 21, 5, 153, 0, 7, 4, 167, 0, 4, 3, 182, 0, 224, 16, 8, 31, 182, 0, 231]
abbrev dktX1_handAttribute_1 : List UInt8 := dkwX1_handAttribute_1 ++ dktX1_handAttribute_2
def dkwX1_handAttribute_0 : List UInt8 := [42, 182, 1, 38, 42, 180, 0, 40, 16, 9, 16, 48, 182, 0, 220, 3, 42, 180, 0, 54, 180, 0, 177]
abbrev dktX1_handAttribute_0 : List UInt8 := dkwX1_handAttribute_0 ++ dktX1_handAttribute_1
theorem dksX1_handAttribute_0 : cX1_handAttribute.data.toList.drop 0 = dktX1_handAttribute_0 := by decide +kernel
theorem dksX1_handAttribute_1 : cX1_handAttribute.data.toList.drop 23 = dktX1_handAttribute_1 := dk_seg dksX1_handAttribute_0 23 rfl rfl
theorem dksX1_handAttribute_2 : cX1_handAttribute.data.toList.drop 46 = dktX1_handAttribute_2 := dk_seg dksX1_handAttribute_1 23 rfl rfl
theorem dksX1_handAttribute_3 : cX1_handAttribute.data.toList.drop 68 = dktX1_handAttribute_3 := dk_seg dksX1_handAttribute_2 22 rfl rfl
theorem dX1_handAttribute_0 : decode cX1_handAttribute 0 = .ok (.aload_n 0, 1) := dk_42 (dk_at dksX1_handAttribute_0 0 rfl rfl)
theorem dX1_handAttribute_1 : decode cX1_handAttribute 1 = .ok (.invokevirtual 294, 3) := dk_182 1 38 (dk_at dksX1_handAttribute_0 1 rfl rfl)
theorem dX1_handAttribute_4 : decode cX1_handAttribute 4 = .ok (.aload_n 0, 1) := dk_42 (dk_at dksX1_handAttribute_0 4 rfl rfl)
theorem dX1_handAttribute_5 : decode cX1_handAttribute 5 = .ok (.getfield 40, 3) := dk_180 0 40 (dk_at dksX1_handAttribute_0 5 rfl rfl)
theorem dX1_handAttribute_8 : decode cX1_handAttribute 8 = .ok (.bipush 9, 2) := dk_16 9 (dk_at dksX1_handAttribute_0 8 rfl rfl)
theorem dX1_handAttribute_10 : decode cX1_handAttribute 10 = .ok (.bipush 48, 2) := dk_16 48 (dk_at dksX1_handAttribute_0 10 rfl rfl)
theorem dX1_handAttribute_12 : decode cX1_handAttribute 12 = .ok (.invokevirtual 220, 3) := dk_182 0 220 (dk_at dksX1_handAttribute_0 12 rfl rfl)
theorem dX1_handAttribute_15 : decode cX1_handAttribute 15 = .ok (.iconst 0, 1) := dk_3 (dk_at dksX1_handAttribute_0 15 rfl rfl)
theorem dX1_handAttribute_16 : decode cX1_handAttribute 16 = .ok (.aload_n 0, 1) := dk_42 (dk_at dksX1_handAttribute_0 16 rfl rfl)
theorem dX1_handAttribute_17 : decode cX1_handAttribute 17 = .ok (.getfield 54, 3) := dk_180 0 54 (dk_at dksX1_handAttribute_0 17 rfl rfl)
theorem dX1_handAttribute_20 : decode cX1_handAttribute 20 = .ok (.getfield 177, 3) := dk_180 0 177 (dk_at dksX1_handAttribute_0 20 rfl rfl)
theorem dX1_handAttribute_23 : decode cX1_handAttribute 23 = .ok (.invokevirtual 224, 3) := dk_182 0 224 (dk_at dksX1_handAttribute_1 0 rfl rfl)
theorem dX1_handAttribute_26 : decode cX1_handAttribute 26 = .ok (.iconst 4, 1) := dk_7 (dk_at dksX1_handAttribute_1 3 rfl rfl)
theorem dX1_handAttribute_27 : decode cX1_handAttribute 27 = .ok (.iload 5, 2) := dk_21 5 (dk_at dksX1_handAttribute_1 4 rfl rfl)
theorem dX1_handAttribute_29 : decode cX1_handAttribute 29 = .ok (.ifCond .eq 7, 3) := dk_153 0 7 (dk_at dksX1_handAttribute_1 6 rfl rfl)
theorem dX1_handAttribute_32 : decode cX1_handAttribute 32 = .ok (.iconst 1, 1) := dk_4 (dk_at dksX1_handAttribute_1 9 rfl rfl)
theorem dX1_handAttribute_33 : decode cX1_handAttribute 33 = .ok (.goto 4, 3) := dk_167 0 4 (dk_at dksX1_handAttribute_1 10 rfl rfl)
theorem dX1_handAttribute_36 : decode cX1_handAttribute 36 = .ok (.iconst 0, 1) := dk_3 (dk_at dksX1_handAttribute_1 13 rfl rfl)
theorem dX1_handAttribute_37 : decode cX1_handAttribute 37 = .ok (.invokevirtual 224, 3) := dk_182 0 224 (dk_at dksX1_handAttribute_1 14 rfl rfl)
theorem dX1_handAttribute_40 : decode cX1_handAttribute 40 = .ok (.bipush 8, 2) := dk_16 8 (dk_at dksX1_handAttribute_1 17 rfl rfl)
theorem dX1_handAttribute_42 : decode cX1_handAttribute 42 = .ok (.lload_n 1, 1) := dk_31 (dk_at dksX1_handAttribute_1 19 rfl rfl)
theorem dX1_handAttribute_43 : decode cX1_handAttribute 43 = .ok (.invokevirtual 231, 3) := dk_182 0 231 (dk_at dksX1_handAttribute_1 20 rfl rfl)
theorem dX1_handAttribute_46 : decode cX1_handAttribute 46 = .ok (.bipush 16, 2) := dk_16 16 (dk_at dksX1_handAttribute_2 0 rfl rfl)
theorem dX1_handAttribute_48 : decode cX1_handAttribute 48 = .ok (.lload_n 3, 1) := dk_33 (dk_at dksX1_handAttribute_2 2 rfl rfl)
theorem dX1_handAttribute_49 : decode cX1_handAttribute 49 = .ok (.invokevirtual 231, 3) := dk_182 0 231 (dk_at dksX1_handAttribute_2 3 rfl rfl)
theorem dX1_handAttribute_52 : decode cX1_handAttribute 52 = .ok (.pop, 1) := dk_87 (dk_at dksX1_handAttribute_2 6 rfl rfl)
theorem dX1_handAttribute_53 : decode cX1_handAttribute 53 = .ok (.aload_n 0, 1) := dk_42 (dk_at dksX1_handAttribute_2 7 rfl rfl)
theorem dX1_handAttribute_54 : decode cX1_handAttribute 54 = .ok (.getfield 40, 3) := dk_180 0 40 (dk_at dksX1_handAttribute_2 8 rfl rfl)
theorem dX1_handAttribute_57 : decode cX1_handAttribute 57 = .ok (.lconst 0, 1) := dk_9 (dk_at dksX1_handAttribute_2 11 rfl rfl)
theorem dX1_handAttribute_58 : decode cX1_handAttribute 58 = .ok (.iconst 0, 1) := dk_3 (dk_at dksX1_handAttribute_2 12 rfl rfl)
theorem dX1_handAttribute_59 : decode cX1_handAttribute 59 = .ok (.invokevirtual 227, 3) := dk_182 0 227 (dk_at dksX1_handAttribute_2 13 rfl rfl)
theorem dX1_handAttribute_62 : decode cX1_handAttribute 62 = .ok (.aload_n 0, 1) := dk_42 (dk_at dksX1_handAttribute_2 16 rfl rfl)
theorem dX1_handAttribute_63 : decode cX1_handAttribute 63 = .ok (.aload_n 0, 1) := dk_42 (dk_at dksX1_handAttribute_2 17 rfl rfl)
theorem dX1_handAttribute_64 : decode cX1_handAttribute 64 = .ok (.getfield 54, 3) := dk_180 0 54 (dk_at dksX1_handAttribute_2 18 rfl rfl)
theorem dX1_handAttribute_67 : decode cX1_handAttribute 67 = .ok (.iconst 1, 1) := dk_4 (dk_at dksX1_handAttribute_2 21 rfl rfl)
theorem dX1_handAttribute_68 : decode cX1_handAttribute 68 = .ok (.invokevirtual 266, 3) := dk_182 1 10 (dk_at dksX1_handAttribute_3 0 rfl rfl)
theorem dX1_handAttribute_71 : decode cX1_handAttribute 71 = .ok (.aload_n 0, 1) := dk_42 (dk_at dksX1_handAttribute_3 3 rfl rfl)
theorem dX1_handAttribute_72 : decode cX1_handAttribute 72 = .ok (.invokevirtual 310, 3) := dk_182 1 54 (dk_at dksX1_handAttribute_3 4 rfl rfl)
theorem dX1_handAttribute_75 : decode cX1_handAttribute 75 = .ok (.return_, 1) := dk_177 (dk_at dksX1_handAttribute_3 7 rfl rfl)
abbrev cX1_drop : ByteArray := prog_1_method_52_code
def yX1_drop : MethodName := ⟨RX1, "drop", "(IJ)I"⟩
def dkwX1_drop_3 : List UInt8 := [17, 0, 240, 100, 181, 0, 130, 42, 180, 0, 54, 180, 0, 192, 172]
abbrev dktX1_drop_3 : List UInt8 := dkwX1_drop_3 ++ []
def dkwX1_drop_2 : List UInt8 := [180, 0, 54, 89, 180, 0, 192, 4, 100, 181, 0, 192, 42, 32, 9, 4, 182, 1, 108, 42, 89, 180, 0, 130]
abbrev dktX1_drop_2 : List UInt8 := dkwX1_drop_2 ++ dktX1_drop_3
def dkwX1_drop_1 : List UInt8 := [180, 0, 54, 182, 0, 214, 153, 0, 12, 42, 27, 32, 182, 1, 104, 154, 0, 6, 16, 252, 172, 42]
abbrev dktX1_drop_1 : List UInt8 := dkwX1_drop_1 ++ dktX1_drop_2
def dkwX1_drop_0 : List UInt8 := [42, 180, 0, 28, 154, 0, 6, 16, 254, 172, 32, 184, 1, 18, 154, 0, 6, 16, 253, 172, 42, 27, 42]
abbrev dktX1_drop_0 : List UInt8 := dkwX1_drop_0 ++ dktX1_drop_1
theorem dksX1_drop_0 : cX1_drop.data.toList.drop 0 = dktX1_drop_0 := by decide +kernel
theorem dksX1_drop_1 : cX1_drop.data.toList.drop 23 = dktX1_drop_1 := dk_seg dksX1_drop_0 23 rfl rfl
theorem dksX1_drop_2 : cX1_drop.data.toList.drop 45 = dktX1_drop_2 := dk_seg dksX1_drop_1 22 rfl rfl
theorem dksX1_drop_3 : cX1_drop.data.toList.drop 69 = dktX1_drop_3 := dk_seg dksX1_drop_2 24 rfl rfl
theorem dX1_drop_0 : decode cX1_drop 0 = .ok (.aload_n 0, 1) := dk_42 (dk_at dksX1_drop_0 0 rfl rfl)
theorem dX1_drop_1 : decode cX1_drop 1 = .ok (.getfield 28, 3) := dk_180 0 28 (dk_at dksX1_drop_0 1 rfl rfl)
theorem dX1_drop_4 : decode cX1_drop 4 = .ok (.ifCond .ne 6, 3) := dk_154 0 6 (dk_at dksX1_drop_0 4 rfl rfl)
theorem dX1_drop_7 : decode cX1_drop 7 = .ok (.bipush (-2), 2) := dk_16 254 (dk_at dksX1_drop_0 7 rfl rfl)
theorem dX1_drop_9 : decode cX1_drop 9 = .ok (.ireturn, 1) := dk_172 (dk_at dksX1_drop_0 9 rfl rfl)
theorem dX1_drop_10 : decode cX1_drop 10 = .ok (.lload_n 2, 1) := dk_32 (dk_at dksX1_drop_0 10 rfl rfl)
theorem dX1_drop_11 : decode cX1_drop 11 = .ok (.invokestatic 274, 3) := dk_184 1 18 (dk_at dksX1_drop_0 11 rfl rfl)
theorem dX1_drop_14 : decode cX1_drop 14 = .ok (.ifCond .ne 6, 3) := dk_154 0 6 (dk_at dksX1_drop_0 14 rfl rfl)
theorem dX1_drop_17 : decode cX1_drop 17 = .ok (.bipush (-3), 2) := dk_16 253 (dk_at dksX1_drop_0 17 rfl rfl)
theorem dX1_drop_19 : decode cX1_drop 19 = .ok (.ireturn, 1) := dk_172 (dk_at dksX1_drop_0 19 rfl rfl)
theorem dX1_drop_20 : decode cX1_drop 20 = .ok (.aload_n 0, 1) := dk_42 (dk_at dksX1_drop_0 20 rfl rfl)
theorem dX1_drop_21 : decode cX1_drop 21 = .ok (.iload_n 1, 1) := dk_27 (dk_at dksX1_drop_0 21 rfl rfl)
theorem dX1_drop_22 : decode cX1_drop 22 = .ok (.aload_n 0, 1) := dk_42 (dk_at dksX1_drop_0 22 rfl rfl)
theorem dX1_drop_23 : decode cX1_drop 23 = .ok (.getfield 54, 3) := dk_180 0 54 (dk_at dksX1_drop_1 0 rfl rfl)
theorem dX1_drop_26 : decode cX1_drop 26 = .ok (.invokevirtual 214, 3) := dk_182 0 214 (dk_at dksX1_drop_1 3 rfl rfl)
theorem dX1_drop_29 : decode cX1_drop 29 = .ok (.ifCond .eq 12, 3) := dk_153 0 12 (dk_at dksX1_drop_1 6 rfl rfl)
theorem dX1_drop_32 : decode cX1_drop 32 = .ok (.aload_n 0, 1) := dk_42 (dk_at dksX1_drop_1 9 rfl rfl)
theorem dX1_drop_33 : decode cX1_drop 33 = .ok (.iload_n 1, 1) := dk_27 (dk_at dksX1_drop_1 10 rfl rfl)
theorem dX1_drop_34 : decode cX1_drop 34 = .ok (.lload_n 2, 1) := dk_32 (dk_at dksX1_drop_1 11 rfl rfl)
theorem dX1_drop_35 : decode cX1_drop 35 = .ok (.invokevirtual 360, 3) := dk_182 1 104 (dk_at dksX1_drop_1 12 rfl rfl)
theorem dX1_drop_38 : decode cX1_drop 38 = .ok (.ifCond .ne 6, 3) := dk_154 0 6 (dk_at dksX1_drop_1 15 rfl rfl)
theorem dX1_drop_41 : decode cX1_drop 41 = .ok (.bipush (-4), 2) := dk_16 252 (dk_at dksX1_drop_1 18 rfl rfl)
theorem dX1_drop_43 : decode cX1_drop 43 = .ok (.ireturn, 1) := dk_172 (dk_at dksX1_drop_1 20 rfl rfl)
theorem dX1_drop_44 : decode cX1_drop 44 = .ok (.aload_n 0, 1) := dk_42 (dk_at dksX1_drop_1 21 rfl rfl)
theorem dX1_drop_45 : decode cX1_drop 45 = .ok (.getfield 54, 3) := dk_180 0 54 (dk_at dksX1_drop_2 0 rfl rfl)
theorem dX1_drop_48 : decode cX1_drop 48 = .ok (.dup, 1) := dk_89 (dk_at dksX1_drop_2 3 rfl rfl)
theorem dX1_drop_49 : decode cX1_drop 49 = .ok (.getfield 192, 3) := dk_180 0 192 (dk_at dksX1_drop_2 4 rfl rfl)
theorem dX1_drop_52 : decode cX1_drop 52 = .ok (.iconst 1, 1) := dk_4 (dk_at dksX1_drop_2 7 rfl rfl)
theorem dX1_drop_53 : decode cX1_drop 53 = .ok (.isub, 1) := dk_100 (dk_at dksX1_drop_2 8 rfl rfl)
theorem dX1_drop_54 : decode cX1_drop 54 = .ok (.putfield 192, 3) := dk_181 0 192 (dk_at dksX1_drop_2 9 rfl rfl)
theorem dX1_drop_57 : decode cX1_drop 57 = .ok (.aload_n 0, 1) := dk_42 (dk_at dksX1_drop_2 12 rfl rfl)
theorem dX1_drop_58 : decode cX1_drop 58 = .ok (.lload_n 2, 1) := dk_32 (dk_at dksX1_drop_2 13 rfl rfl)
theorem dX1_drop_59 : decode cX1_drop 59 = .ok (.lconst 0, 1) := dk_9 (dk_at dksX1_drop_2 14 rfl rfl)
theorem dX1_drop_60 : decode cX1_drop 60 = .ok (.iconst 1, 1) := dk_4 (dk_at dksX1_drop_2 15 rfl rfl)
theorem dX1_drop_61 : decode cX1_drop 61 = .ok (.invokevirtual 364, 3) := dk_182 1 108 (dk_at dksX1_drop_2 16 rfl rfl)
theorem dX1_drop_64 : decode cX1_drop 64 = .ok (.aload_n 0, 1) := dk_42 (dk_at dksX1_drop_2 19 rfl rfl)
theorem dX1_drop_65 : decode cX1_drop 65 = .ok (.dup, 1) := dk_89 (dk_at dksX1_drop_2 20 rfl rfl)
theorem dX1_drop_66 : decode cX1_drop 66 = .ok (.getfield 130, 3) := dk_180 0 130 (dk_at dksX1_drop_2 21 rfl rfl)
theorem dX1_drop_69 : decode cX1_drop 69 = .ok (.sipush 240, 3) := dk_17 0 240 (dk_at dksX1_drop_3 0 rfl rfl)
theorem dX1_drop_72 : decode cX1_drop 72 = .ok (.isub, 1) := dk_100 (dk_at dksX1_drop_3 3 rfl rfl)
theorem dX1_drop_73 : decode cX1_drop 73 = .ok (.putfield 130, 3) := dk_181 0 130 (dk_at dksX1_drop_3 4 rfl rfl)
theorem dX1_drop_76 : decode cX1_drop 76 = .ok (.aload_n 0, 1) := dk_42 (dk_at dksX1_drop_3 7 rfl rfl)
theorem dX1_drop_77 : decode cX1_drop 77 = .ok (.getfield 54, 3) := dk_180 0 54 (dk_at dksX1_drop_3 8 rfl rfl)
theorem dX1_drop_80 : decode cX1_drop 80 = .ok (.getfield 192, 3) := dk_180 0 192 (dk_at dksX1_drop_3 11 rfl rfl)
theorem dX1_drop_83 : decode cX1_drop 83 = .ok (.ireturn, 1) := dk_172 (dk_at dksX1_drop_3 14 rfl rfl)
abbrev cX1_attribute : ByteArray := prog_1_method_53_code
def yX1_attribute : MethodName := ⟨RX1, "attribute", "(IJ)J"⟩
def dkwX1_attribute_1 : List UInt8 := [180, 0, 111, 180, 0, 170, 16, 16, 182, 0, 210, 167, 0, 4, 9, 173]
abbrev dktX1_attribute_1 : List UInt8 := dkwX1_attribute_1 ++ []
def dkwX1_attribute_0 : List UInt8 := [42, 180, 0, 28, 153, 0, 34, 32, 184, 1, 18, 153, 0, 27, 42, 27, 32, 182, 1, 104, 153, 0, 18, 42]
abbrev dktX1_attribute_0 : List UInt8 := dkwX1_attribute_0 ++ dktX1_attribute_1
theorem dksX1_attribute_0 : cX1_attribute.data.toList.drop 0 = dktX1_attribute_0 := by decide +kernel
theorem dksX1_attribute_1 : cX1_attribute.data.toList.drop 24 = dktX1_attribute_1 := dk_seg dksX1_attribute_0 24 rfl rfl
theorem dX1_attribute_0 : decode cX1_attribute 0 = .ok (.aload_n 0, 1) := dk_42 (dk_at dksX1_attribute_0 0 rfl rfl)
theorem dX1_attribute_1 : decode cX1_attribute 1 = .ok (.getfield 28, 3) := dk_180 0 28 (dk_at dksX1_attribute_0 1 rfl rfl)
theorem dX1_attribute_4 : decode cX1_attribute 4 = .ok (.ifCond .eq 34, 3) := dk_153 0 34 (dk_at dksX1_attribute_0 4 rfl rfl)
theorem dX1_attribute_7 : decode cX1_attribute 7 = .ok (.lload_n 2, 1) := dk_32 (dk_at dksX1_attribute_0 7 rfl rfl)
theorem dX1_attribute_8 : decode cX1_attribute 8 = .ok (.invokestatic 274, 3) := dk_184 1 18 (dk_at dksX1_attribute_0 8 rfl rfl)
theorem dX1_attribute_11 : decode cX1_attribute 11 = .ok (.ifCond .eq 27, 3) := dk_153 0 27 (dk_at dksX1_attribute_0 11 rfl rfl)
theorem dX1_attribute_14 : decode cX1_attribute 14 = .ok (.aload_n 0, 1) := dk_42 (dk_at dksX1_attribute_0 14 rfl rfl)
theorem dX1_attribute_15 : decode cX1_attribute 15 = .ok (.iload_n 1, 1) := dk_27 (dk_at dksX1_attribute_0 15 rfl rfl)
theorem dX1_attribute_16 : decode cX1_attribute 16 = .ok (.lload_n 2, 1) := dk_32 (dk_at dksX1_attribute_0 16 rfl rfl)
theorem dX1_attribute_17 : decode cX1_attribute 17 = .ok (.invokevirtual 360, 3) := dk_182 1 104 (dk_at dksX1_attribute_0 17 rfl rfl)
theorem dX1_attribute_20 : decode cX1_attribute 20 = .ok (.ifCond .eq 18, 3) := dk_153 0 18 (dk_at dksX1_attribute_0 20 rfl rfl)
theorem dX1_attribute_23 : decode cX1_attribute 23 = .ok (.aload_n 0, 1) := dk_42 (dk_at dksX1_attribute_0 23 rfl rfl)
theorem dX1_attribute_24 : decode cX1_attribute 24 = .ok (.getfield 111, 3) := dk_180 0 111 (dk_at dksX1_attribute_1 0 rfl rfl)
theorem dX1_attribute_27 : decode cX1_attribute 27 = .ok (.getfield 170, 3) := dk_180 0 170 (dk_at dksX1_attribute_1 3 rfl rfl)
theorem dX1_attribute_30 : decode cX1_attribute 30 = .ok (.bipush 16, 2) := dk_16 16 (dk_at dksX1_attribute_1 6 rfl rfl)
theorem dX1_attribute_32 : decode cX1_attribute 32 = .ok (.invokevirtual 210, 3) := dk_182 0 210 (dk_at dksX1_attribute_1 8 rfl rfl)
theorem dX1_attribute_35 : decode cX1_attribute 35 = .ok (.goto 4, 3) := dk_167 0 4 (dk_at dksX1_attribute_1 11 rfl rfl)
theorem dX1_attribute_38 : decode cX1_attribute 38 = .ok (.lconst 0, 1) := dk_9 (dk_at dksX1_attribute_1 14 rfl rfl)
theorem dX1_attribute_39 : decode cX1_attribute 39 = .ok (.lreturn, 1) := dk_173 (dk_at dksX1_attribute_1 15 rfl rfl)
abbrev cX1_attributes : ByteArray := prog_1_method_54_code
def yX1_attributes : MethodName := ⟨RX1, "attributes", "(I)I"⟩
def dkwX1_attributes_1 : List UInt8 := [42, 180, 0, 54, 180, 0, 192, 167, 0, 5, 16, 252, 172]
abbrev dktX1_attributes_1 : List UInt8 := dkwX1_attributes_1 ++ []
def dkwX1_attributes_0 : List UInt8 := [42, 180, 0, 28, 154, 0, 8, 16, 254, 167, 0, 27, 42, 27, 42, 180, 0, 54, 182, 0, 214, 153, 0, 13]
abbrev dktX1_attributes_0 : List UInt8 := dkwX1_attributes_0 ++ dktX1_attributes_1
theorem dksX1_attributes_0 : cX1_attributes.data.toList.drop 0 = dktX1_attributes_0 := by decide +kernel
theorem dksX1_attributes_1 : cX1_attributes.data.toList.drop 24 = dktX1_attributes_1 := dk_seg dksX1_attributes_0 24 rfl rfl
theorem dX1_attributes_0 : decode cX1_attributes 0 = .ok (.aload_n 0, 1) := dk_42 (dk_at dksX1_attributes_0 0 rfl rfl)
theorem dX1_attributes_1 : decode cX1_attributes 1 = .ok (.getfield 28, 3) := dk_180 0 28 (dk_at dksX1_attributes_0 1 rfl rfl)
theorem dX1_attributes_4 : decode cX1_attributes 4 = .ok (.ifCond .ne 8, 3) := dk_154 0 8 (dk_at dksX1_attributes_0 4 rfl rfl)
theorem dX1_attributes_7 : decode cX1_attributes 7 = .ok (.bipush (-2), 2) := dk_16 254 (dk_at dksX1_attributes_0 7 rfl rfl)
theorem dX1_attributes_9 : decode cX1_attributes 9 = .ok (.goto 27, 3) := dk_167 0 27 (dk_at dksX1_attributes_0 9 rfl rfl)
theorem dX1_attributes_12 : decode cX1_attributes 12 = .ok (.aload_n 0, 1) := dk_42 (dk_at dksX1_attributes_0 12 rfl rfl)
theorem dX1_attributes_13 : decode cX1_attributes 13 = .ok (.iload_n 1, 1) := dk_27 (dk_at dksX1_attributes_0 13 rfl rfl)
theorem dX1_attributes_14 : decode cX1_attributes 14 = .ok (.aload_n 0, 1) := dk_42 (dk_at dksX1_attributes_0 14 rfl rfl)
theorem dX1_attributes_15 : decode cX1_attributes 15 = .ok (.getfield 54, 3) := dk_180 0 54 (dk_at dksX1_attributes_0 15 rfl rfl)
theorem dX1_attributes_18 : decode cX1_attributes 18 = .ok (.invokevirtual 214, 3) := dk_182 0 214 (dk_at dksX1_attributes_0 18 rfl rfl)
theorem dX1_attributes_21 : decode cX1_attributes 21 = .ok (.ifCond .eq 13, 3) := dk_153 0 13 (dk_at dksX1_attributes_0 21 rfl rfl)
theorem dX1_attributes_24 : decode cX1_attributes 24 = .ok (.aload_n 0, 1) := dk_42 (dk_at dksX1_attributes_1 0 rfl rfl)
theorem dX1_attributes_25 : decode cX1_attributes 25 = .ok (.getfield 54, 3) := dk_180 0 54 (dk_at dksX1_attributes_1 1 rfl rfl)
theorem dX1_attributes_28 : decode cX1_attributes 28 = .ok (.getfield 192, 3) := dk_180 0 192 (dk_at dksX1_attributes_1 4 rfl rfl)
theorem dX1_attributes_31 : decode cX1_attributes 31 = .ok (.goto 5, 3) := dk_167 0 5 (dk_at dksX1_attributes_1 7 rfl rfl)
theorem dX1_attributes_34 : decode cX1_attributes 34 = .ok (.bipush (-4), 2) := dk_16 252 (dk_at dksX1_attributes_1 10 rfl rfl)
theorem dX1_attributes_36 : decode cX1_attributes 36 = .ok (.ireturn, 1) := dk_172 (dk_at dksX1_attributes_1 12 rfl rfl)
abbrev cX1_key : ByteArray := prog_1_method_55_code
def yX1_key : MethodName := ⟨RX1, "key", "(II)J"⟩
def dkwX1_key_4 : List UInt8 := [184, 1, 79, 173]
abbrev dktX1_key_4 : List UInt8 := dkwX1_key_4 ++ []
def dkwX1_key_3 : List UInt8 := [180, 0, 136, 182, 0, 153, 62, 132, 4, 1, 167, 255, 232, 42, 180, 0, 111, 180, 0, 136, 180, 0, 204]
abbrev dktX1_key_3 : List UInt8 := dkwX1_key_3 ++ dktX1_key_4
def dkwX1_key_2 : List UInt8 := [9, 182, 0, 140, 62, 3, 54, 4, 21, 4, 28, 162, 0, 24, 29, 153, 0, 20, 42, 180, 0, 111]
abbrev dktX1_key_2 : List UInt8 := dkwX1_key_2 ++ dktX1_key_3
def dkwX1_key_1 : List UInt8 := [42, 180, 0, 54, 180, 0, 192, 161, 0, 5, 9, 173, 42, 180, 0, 111, 180, 0, 136, 27, 6, 184, 0, 157]
abbrev dktX1_key_1 : List UInt8 := dkwX1_key_1 ++ dktX1_key_2
def dkwX1_key_0 : List UInt8 := [42, 180, 0, 28, 153, 0, 30, 28, 155, 0, 26, 42, 27, 42, 180, 0, 54, 182, 0, 214, 153, 0, 14, 28]
abbrev dktX1_key_0 : List UInt8 := dkwX1_key_0 ++ dktX1_key_1
theorem dksX1_key_0 : cX1_key.data.toList.drop 0 = dktX1_key_0 := by decide +kernel
theorem dksX1_key_1 : cX1_key.data.toList.drop 24 = dktX1_key_1 := dk_seg dksX1_key_0 24 rfl rfl
theorem dksX1_key_2 : cX1_key.data.toList.drop 48 = dktX1_key_2 := dk_seg dksX1_key_1 24 rfl rfl
theorem dksX1_key_3 : cX1_key.data.toList.drop 70 = dktX1_key_3 := dk_seg dksX1_key_2 22 rfl rfl
theorem dksX1_key_4 : cX1_key.data.toList.drop 93 = dktX1_key_4 := dk_seg dksX1_key_3 23 rfl rfl
theorem dX1_key_0 : decode cX1_key 0 = .ok (.aload_n 0, 1) := dk_42 (dk_at dksX1_key_0 0 rfl rfl)
theorem dX1_key_1 : decode cX1_key 1 = .ok (.getfield 28, 3) := dk_180 0 28 (dk_at dksX1_key_0 1 rfl rfl)
theorem dX1_key_4 : decode cX1_key 4 = .ok (.ifCond .eq 30, 3) := dk_153 0 30 (dk_at dksX1_key_0 4 rfl rfl)
theorem dX1_key_7 : decode cX1_key 7 = .ok (.iload_n 2, 1) := dk_28 (dk_at dksX1_key_0 7 rfl rfl)
theorem dX1_key_8 : decode cX1_key 8 = .ok (.ifCond .lt 26, 3) := dk_155 0 26 (dk_at dksX1_key_0 8 rfl rfl)
theorem dX1_key_11 : decode cX1_key 11 = .ok (.aload_n 0, 1) := dk_42 (dk_at dksX1_key_0 11 rfl rfl)
theorem dX1_key_12 : decode cX1_key 12 = .ok (.iload_n 1, 1) := dk_27 (dk_at dksX1_key_0 12 rfl rfl)
theorem dX1_key_13 : decode cX1_key 13 = .ok (.aload_n 0, 1) := dk_42 (dk_at dksX1_key_0 13 rfl rfl)
theorem dX1_key_14 : decode cX1_key 14 = .ok (.getfield 54, 3) := dk_180 0 54 (dk_at dksX1_key_0 14 rfl rfl)
theorem dX1_key_17 : decode cX1_key 17 = .ok (.invokevirtual 214, 3) := dk_182 0 214 (dk_at dksX1_key_0 17 rfl rfl)
theorem dX1_key_20 : decode cX1_key 20 = .ok (.ifCond .eq 14, 3) := dk_153 0 14 (dk_at dksX1_key_0 20 rfl rfl)
theorem dX1_key_23 : decode cX1_key 23 = .ok (.iload_n 2, 1) := dk_28 (dk_at dksX1_key_0 23 rfl rfl)
theorem dX1_key_24 : decode cX1_key 24 = .ok (.aload_n 0, 1) := dk_42 (dk_at dksX1_key_1 0 rfl rfl)
theorem dX1_key_25 : decode cX1_key 25 = .ok (.getfield 54, 3) := dk_180 0 54 (dk_at dksX1_key_1 1 rfl rfl)
theorem dX1_key_28 : decode cX1_key 28 = .ok (.getfield 192, 3) := dk_180 0 192 (dk_at dksX1_key_1 4 rfl rfl)
theorem dX1_key_31 : decode cX1_key 31 = .ok (.if_icmp .lt 5, 3) := dk_161 0 5 (dk_at dksX1_key_1 7 rfl rfl)
theorem dX1_key_34 : decode cX1_key 34 = .ok (.lconst 0, 1) := dk_9 (dk_at dksX1_key_1 10 rfl rfl)
theorem dX1_key_35 : decode cX1_key 35 = .ok (.lreturn, 1) := dk_173 (dk_at dksX1_key_1 11 rfl rfl)
theorem dX1_key_36 : decode cX1_key 36 = .ok (.aload_n 0, 1) := dk_42 (dk_at dksX1_key_1 12 rfl rfl)
theorem dX1_key_37 : decode cX1_key 37 = .ok (.getfield 111, 3) := dk_180 0 111 (dk_at dksX1_key_1 13 rfl rfl)
theorem dX1_key_40 : decode cX1_key 40 = .ok (.getfield 136, 3) := dk_180 0 136 (dk_at dksX1_key_1 16 rfl rfl)
theorem dX1_key_43 : decode cX1_key 43 = .ok (.iload_n 1, 1) := dk_27 (dk_at dksX1_key_1 19 rfl rfl)
theorem dX1_key_44 : decode cX1_key 44 = .ok (.iconst 3, 1) := dk_6 (dk_at dksX1_key_1 20 rfl rfl)
theorem dX1_key_45 : decode cX1_key 45 = .ok (.invokestatic 157, 3) := dk_184 0 157 (dk_at dksX1_key_1 21 rfl rfl)
theorem dX1_key_48 : decode cX1_key 48 = .ok (.lconst 0, 1) := dk_9 (dk_at dksX1_key_2 0 rfl rfl)
theorem dX1_key_49 : decode cX1_key 49 = .ok (.invokevirtual 140, 3) := dk_182 0 140 (dk_at dksX1_key_2 1 rfl rfl)
theorem dX1_key_52 : decode cX1_key 52 = .ok (.istore_n 3, 1) := dk_62 (dk_at dksX1_key_2 4 rfl rfl)
theorem dX1_key_53 : decode cX1_key 53 = .ok (.iconst 0, 1) := dk_3 (dk_at dksX1_key_2 5 rfl rfl)
theorem dX1_key_54 : decode cX1_key 54 = .ok (.istore 4, 2) := dk_54 4 (dk_at dksX1_key_2 6 rfl rfl)
theorem dX1_key_56 : decode cX1_key 56 = .ok (.iload 4, 2) := dk_21 4 (dk_at dksX1_key_2 8 rfl rfl)
theorem dX1_key_58 : decode cX1_key 58 = .ok (.iload_n 2, 1) := dk_28 (dk_at dksX1_key_2 10 rfl rfl)
theorem dX1_key_59 : decode cX1_key 59 = .ok (.if_icmp .ge 24, 3) := dk_162 0 24 (dk_at dksX1_key_2 11 rfl rfl)
theorem dX1_key_62 : decode cX1_key 62 = .ok (.iload_n 3, 1) := dk_29 (dk_at dksX1_key_2 14 rfl rfl)
theorem dX1_key_63 : decode cX1_key 63 = .ok (.ifCond .eq 20, 3) := dk_153 0 20 (dk_at dksX1_key_2 15 rfl rfl)
theorem dX1_key_66 : decode cX1_key 66 = .ok (.aload_n 0, 1) := dk_42 (dk_at dksX1_key_2 18 rfl rfl)
theorem dX1_key_67 : decode cX1_key 67 = .ok (.getfield 111, 3) := dk_180 0 111 (dk_at dksX1_key_2 19 rfl rfl)
theorem dX1_key_70 : decode cX1_key 70 = .ok (.getfield 136, 3) := dk_180 0 136 (dk_at dksX1_key_3 0 rfl rfl)
theorem dX1_key_73 : decode cX1_key 73 = .ok (.invokevirtual 153, 3) := dk_182 0 153 (dk_at dksX1_key_3 3 rfl rfl)
theorem dX1_key_76 : decode cX1_key 76 = .ok (.istore_n 3, 1) := dk_62 (dk_at dksX1_key_3 6 rfl rfl)
theorem dX1_key_77 : decode cX1_key 77 = .ok (.iinc 4 1, 3) := dk_132 4 1 (dk_at dksX1_key_3 7 rfl rfl)
theorem dX1_key_80 : decode cX1_key 80 = .ok (.goto (-24), 3) := dk_167 255 232 (dk_at dksX1_key_3 10 rfl rfl)
theorem dX1_key_83 : decode cX1_key 83 = .ok (.aload_n 0, 1) := dk_42 (dk_at dksX1_key_3 13 rfl rfl)
theorem dX1_key_84 : decode cX1_key 84 = .ok (.getfield 111, 3) := dk_180 0 111 (dk_at dksX1_key_3 14 rfl rfl)
theorem dX1_key_87 : decode cX1_key 87 = .ok (.getfield 136, 3) := dk_180 0 136 (dk_at dksX1_key_3 17 rfl rfl)
theorem dX1_key_90 : decode cX1_key 90 = .ok (.getfield 204, 3) := dk_180 0 204 (dk_at dksX1_key_3 20 rfl rfl)
theorem dX1_key_93 : decode cX1_key 93 = .ok (.invokestatic 335, 3) := dk_184 1 79 (dk_at dksX1_key_4 0 rfl rfl)
theorem dX1_key_96 : decode cX1_key 96 = .ok (.lreturn, 1) := dk_173 (dk_at dksX1_key_4 3 rfl rfl)
abbrev cX1_kind : ByteArray := prog_1_method_56_code
def yX1_kind : MethodName := ⟨RX1, "kind", "(I)I"⟩
def dkwX1_kind_1 : List UInt8 := [42, 180, 0, 54, 180, 0, 182, 167, 0, 4, 3, 172]
abbrev dktX1_kind_1 : List UInt8 := dkwX1_kind_1 ++ []
def dkwX1_kind_0 : List UInt8 := [42, 180, 0, 28, 154, 0, 8, 16, 254, 167, 0, 26, 42, 27, 42, 180, 0, 54, 182, 0, 214, 153, 0, 13]
abbrev dktX1_kind_0 : List UInt8 := dkwX1_kind_0 ++ dktX1_kind_1
theorem dksX1_kind_0 : cX1_kind.data.toList.drop 0 = dktX1_kind_0 := by decide +kernel
theorem dksX1_kind_1 : cX1_kind.data.toList.drop 24 = dktX1_kind_1 := dk_seg dksX1_kind_0 24 rfl rfl
theorem dX1_kind_0 : decode cX1_kind 0 = .ok (.aload_n 0, 1) := dk_42 (dk_at dksX1_kind_0 0 rfl rfl)
theorem dX1_kind_1 : decode cX1_kind 1 = .ok (.getfield 28, 3) := dk_180 0 28 (dk_at dksX1_kind_0 1 rfl rfl)
theorem dX1_kind_4 : decode cX1_kind 4 = .ok (.ifCond .ne 8, 3) := dk_154 0 8 (dk_at dksX1_kind_0 4 rfl rfl)
theorem dX1_kind_7 : decode cX1_kind 7 = .ok (.bipush (-2), 2) := dk_16 254 (dk_at dksX1_kind_0 7 rfl rfl)
theorem dX1_kind_9 : decode cX1_kind 9 = .ok (.goto 26, 3) := dk_167 0 26 (dk_at dksX1_kind_0 9 rfl rfl)
theorem dX1_kind_12 : decode cX1_kind 12 = .ok (.aload_n 0, 1) := dk_42 (dk_at dksX1_kind_0 12 rfl rfl)
theorem dX1_kind_13 : decode cX1_kind 13 = .ok (.iload_n 1, 1) := dk_27 (dk_at dksX1_kind_0 13 rfl rfl)
theorem dX1_kind_14 : decode cX1_kind 14 = .ok (.aload_n 0, 1) := dk_42 (dk_at dksX1_kind_0 14 rfl rfl)
theorem dX1_kind_15 : decode cX1_kind 15 = .ok (.getfield 54, 3) := dk_180 0 54 (dk_at dksX1_kind_0 15 rfl rfl)
theorem dX1_kind_18 : decode cX1_kind 18 = .ok (.invokevirtual 214, 3) := dk_182 0 214 (dk_at dksX1_kind_0 18 rfl rfl)
theorem dX1_kind_21 : decode cX1_kind 21 = .ok (.ifCond .eq 13, 3) := dk_153 0 13 (dk_at dksX1_kind_0 21 rfl rfl)
theorem dX1_kind_24 : decode cX1_kind 24 = .ok (.aload_n 0, 1) := dk_42 (dk_at dksX1_kind_1 0 rfl rfl)
theorem dX1_kind_25 : decode cX1_kind 25 = .ok (.getfield 54, 3) := dk_180 0 54 (dk_at dksX1_kind_1 1 rfl rfl)
theorem dX1_kind_28 : decode cX1_kind 28 = .ok (.getfield 182, 3) := dk_180 0 182 (dk_at dksX1_kind_1 4 rfl rfl)
theorem dX1_kind_31 : decode cX1_kind 31 = .ok (.goto 4, 3) := dk_167 0 4 (dk_at dksX1_kind_1 7 rfl rfl)
theorem dX1_kind_34 : decode cX1_kind 34 = .ok (.iconst 0, 1) := dk_3 (dk_at dksX1_kind_1 10 rfl rfl)
theorem dX1_kind_35 : decode cX1_kind 35 = .ok (.ireturn, 1) := dk_172 (dk_at dksX1_kind_1 11 rfl rfl)
abbrev cX1_count_2 : ByteArray := prog_1_method_57_code
def yX1_count_2 : MethodName := ⟨RX1, "count", "(I)I"⟩
def dkwX1_count_2_2 : List UInt8 := [180, 0, 54, 180, 0, 185, 172]
abbrev dktX1_count_2_2 : List UInt8 := dkwX1_count_2_2 ++ []
def dkwX1_count_2_1 : List UInt8 := [172, 42, 180, 0, 54, 180, 0, 182, 4, 160, 0, 13, 42, 180, 0, 54, 180, 0, 189, 167, 0, 10, 42]
abbrev dktX1_count_2_1 : List UInt8 := dkwX1_count_2_1 ++ dktX1_count_2_2
def dkwX1_count_2_0 : List UInt8 := [42, 180, 0, 28, 154, 0, 6, 16, 254, 172, 42, 27, 42, 180, 0, 54, 182, 0, 214, 154, 0, 6, 16, 252]
abbrev dktX1_count_2_0 : List UInt8 := dkwX1_count_2_0 ++ dktX1_count_2_1
theorem dksX1_count_2_0 : cX1_count_2.data.toList.drop 0 = dktX1_count_2_0 := by decide +kernel
theorem dksX1_count_2_1 : cX1_count_2.data.toList.drop 24 = dktX1_count_2_1 := dk_seg dksX1_count_2_0 24 rfl rfl
theorem dksX1_count_2_2 : cX1_count_2.data.toList.drop 47 = dktX1_count_2_2 := dk_seg dksX1_count_2_1 23 rfl rfl
theorem dX1_count_2_0 : decode cX1_count_2 0 = .ok (.aload_n 0, 1) := dk_42 (dk_at dksX1_count_2_0 0 rfl rfl)
theorem dX1_count_2_1 : decode cX1_count_2 1 = .ok (.getfield 28, 3) := dk_180 0 28 (dk_at dksX1_count_2_0 1 rfl rfl)
theorem dX1_count_2_4 : decode cX1_count_2 4 = .ok (.ifCond .ne 6, 3) := dk_154 0 6 (dk_at dksX1_count_2_0 4 rfl rfl)
theorem dX1_count_2_7 : decode cX1_count_2 7 = .ok (.bipush (-2), 2) := dk_16 254 (dk_at dksX1_count_2_0 7 rfl rfl)
theorem dX1_count_2_9 : decode cX1_count_2 9 = .ok (.ireturn, 1) := dk_172 (dk_at dksX1_count_2_0 9 rfl rfl)
theorem dX1_count_2_10 : decode cX1_count_2 10 = .ok (.aload_n 0, 1) := dk_42 (dk_at dksX1_count_2_0 10 rfl rfl)
theorem dX1_count_2_11 : decode cX1_count_2 11 = .ok (.iload_n 1, 1) := dk_27 (dk_at dksX1_count_2_0 11 rfl rfl)
theorem dX1_count_2_12 : decode cX1_count_2 12 = .ok (.aload_n 0, 1) := dk_42 (dk_at dksX1_count_2_0 12 rfl rfl)
theorem dX1_count_2_13 : decode cX1_count_2 13 = .ok (.getfield 54, 3) := dk_180 0 54 (dk_at dksX1_count_2_0 13 rfl rfl)
theorem dX1_count_2_16 : decode cX1_count_2 16 = .ok (.invokevirtual 214, 3) := dk_182 0 214 (dk_at dksX1_count_2_0 16 rfl rfl)
theorem dX1_count_2_19 : decode cX1_count_2 19 = .ok (.ifCond .ne 6, 3) := dk_154 0 6 (dk_at dksX1_count_2_0 19 rfl rfl)
theorem dX1_count_2_22 : decode cX1_count_2 22 = .ok (.bipush (-4), 2) := dk_16 252 (dk_at dksX1_count_2_0 22 rfl rfl)
theorem dX1_count_2_24 : decode cX1_count_2 24 = .ok (.ireturn, 1) := dk_172 (dk_at dksX1_count_2_1 0 rfl rfl)
theorem dX1_count_2_25 : decode cX1_count_2 25 = .ok (.aload_n 0, 1) := dk_42 (dk_at dksX1_count_2_1 1 rfl rfl)
theorem dX1_count_2_26 : decode cX1_count_2 26 = .ok (.getfield 54, 3) := dk_180 0 54 (dk_at dksX1_count_2_1 2 rfl rfl)
theorem dX1_count_2_29 : decode cX1_count_2 29 = .ok (.getfield 182, 3) := dk_180 0 182 (dk_at dksX1_count_2_1 5 rfl rfl)
theorem dX1_count_2_32 : decode cX1_count_2 32 = .ok (.iconst 1, 1) := dk_4 (dk_at dksX1_count_2_1 8 rfl rfl)
theorem dX1_count_2_33 : decode cX1_count_2 33 = .ok (.if_icmp .ne 13, 3) := dk_160 0 13 (dk_at dksX1_count_2_1 9 rfl rfl)
theorem dX1_count_2_36 : decode cX1_count_2 36 = .ok (.aload_n 0, 1) := dk_42 (dk_at dksX1_count_2_1 12 rfl rfl)
theorem dX1_count_2_37 : decode cX1_count_2 37 = .ok (.getfield 54, 3) := dk_180 0 54 (dk_at dksX1_count_2_1 13 rfl rfl)
theorem dX1_count_2_40 : decode cX1_count_2 40 = .ok (.getfield 189, 3) := dk_180 0 189 (dk_at dksX1_count_2_1 16 rfl rfl)
theorem dX1_count_2_43 : decode cX1_count_2 43 = .ok (.goto 10, 3) := dk_167 0 10 (dk_at dksX1_count_2_1 19 rfl rfl)
theorem dX1_count_2_46 : decode cX1_count_2 46 = .ok (.aload_n 0, 1) := dk_42 (dk_at dksX1_count_2_1 22 rfl rfl)
theorem dX1_count_2_47 : decode cX1_count_2 47 = .ok (.getfield 54, 3) := dk_180 0 54 (dk_at dksX1_count_2_2 0 rfl rfl)
theorem dX1_count_2_50 : decode cX1_count_2 50 = .ok (.getfield 185, 3) := dk_180 0 185 (dk_at dksX1_count_2_2 3 rfl rfl)
theorem dX1_count_2_53 : decode cX1_count_2 53 = .ok (.ireturn, 1) := dk_172 (dk_at dksX1_count_2_2 6 rfl rfl)
abbrev cX1_size : ByteArray := prog_1_method_58_code
def yX1_size : MethodName := ⟨RX1, "size", "(I)I"⟩
def dkwX1_size_2 : List UInt8 := [172]
abbrev dktX1_size_2 : List UInt8 := dkwX1_size_2 ++ []
def dkwX1_size_1 : List UInt8 := [172, 42, 180, 0, 54, 180, 0, 182, 4, 160, 0, 8, 16, 249, 167, 0, 10, 42, 180, 0, 54, 180, 0, 188]
abbrev dktX1_size_1 : List UInt8 := dkwX1_size_1 ++ dktX1_size_2
def dkwX1_size_0 : List UInt8 := [42, 180, 0, 28, 154, 0, 6, 16, 254, 172, 42, 27, 42, 180, 0, 54, 182, 0, 214, 154, 0, 6, 16, 252]
abbrev dktX1_size_0 : List UInt8 := dkwX1_size_0 ++ dktX1_size_1
theorem dksX1_size_0 : cX1_size.data.toList.drop 0 = dktX1_size_0 := by decide +kernel
theorem dksX1_size_1 : cX1_size.data.toList.drop 24 = dktX1_size_1 := dk_seg dksX1_size_0 24 rfl rfl
theorem dksX1_size_2 : cX1_size.data.toList.drop 48 = dktX1_size_2 := dk_seg dksX1_size_1 24 rfl rfl
theorem dX1_size_0 : decode cX1_size 0 = .ok (.aload_n 0, 1) := dk_42 (dk_at dksX1_size_0 0 rfl rfl)
theorem dX1_size_1 : decode cX1_size 1 = .ok (.getfield 28, 3) := dk_180 0 28 (dk_at dksX1_size_0 1 rfl rfl)
theorem dX1_size_4 : decode cX1_size 4 = .ok (.ifCond .ne 6, 3) := dk_154 0 6 (dk_at dksX1_size_0 4 rfl rfl)
theorem dX1_size_7 : decode cX1_size 7 = .ok (.bipush (-2), 2) := dk_16 254 (dk_at dksX1_size_0 7 rfl rfl)
theorem dX1_size_9 : decode cX1_size 9 = .ok (.ireturn, 1) := dk_172 (dk_at dksX1_size_0 9 rfl rfl)
theorem dX1_size_10 : decode cX1_size 10 = .ok (.aload_n 0, 1) := dk_42 (dk_at dksX1_size_0 10 rfl rfl)
theorem dX1_size_11 : decode cX1_size 11 = .ok (.iload_n 1, 1) := dk_27 (dk_at dksX1_size_0 11 rfl rfl)
theorem dX1_size_12 : decode cX1_size 12 = .ok (.aload_n 0, 1) := dk_42 (dk_at dksX1_size_0 12 rfl rfl)
theorem dX1_size_13 : decode cX1_size 13 = .ok (.getfield 54, 3) := dk_180 0 54 (dk_at dksX1_size_0 13 rfl rfl)
theorem dX1_size_16 : decode cX1_size 16 = .ok (.invokevirtual 214, 3) := dk_182 0 214 (dk_at dksX1_size_0 16 rfl rfl)
theorem dX1_size_19 : decode cX1_size 19 = .ok (.ifCond .ne 6, 3) := dk_154 0 6 (dk_at dksX1_size_0 19 rfl rfl)
theorem dX1_size_22 : decode cX1_size 22 = .ok (.bipush (-4), 2) := dk_16 252 (dk_at dksX1_size_0 22 rfl rfl)
theorem dX1_size_24 : decode cX1_size 24 = .ok (.ireturn, 1) := dk_172 (dk_at dksX1_size_1 0 rfl rfl)
theorem dX1_size_25 : decode cX1_size 25 = .ok (.aload_n 0, 1) := dk_42 (dk_at dksX1_size_1 1 rfl rfl)
theorem dX1_size_26 : decode cX1_size 26 = .ok (.getfield 54, 3) := dk_180 0 54 (dk_at dksX1_size_1 2 rfl rfl)
theorem dX1_size_29 : decode cX1_size 29 = .ok (.getfield 182, 3) := dk_180 0 182 (dk_at dksX1_size_1 5 rfl rfl)
theorem dX1_size_32 : decode cX1_size 32 = .ok (.iconst 1, 1) := dk_4 (dk_at dksX1_size_1 8 rfl rfl)
theorem dX1_size_33 : decode cX1_size 33 = .ok (.if_icmp .ne 8, 3) := dk_160 0 8 (dk_at dksX1_size_1 9 rfl rfl)
theorem dX1_size_36 : decode cX1_size 36 = .ok (.bipush (-7), 2) := dk_16 249 (dk_at dksX1_size_1 12 rfl rfl)
theorem dX1_size_38 : decode cX1_size 38 = .ok (.goto 10, 3) := dk_167 0 10 (dk_at dksX1_size_1 14 rfl rfl)
theorem dX1_size_41 : decode cX1_size 41 = .ok (.aload_n 0, 1) := dk_42 (dk_at dksX1_size_1 17 rfl rfl)
theorem dX1_size_42 : decode cX1_size 42 = .ok (.getfield 54, 3) := dk_180 0 54 (dk_at dksX1_size_1 18 rfl rfl)
theorem dX1_size_45 : decode cX1_size 45 = .ok (.getfield 188, 3) := dk_180 0 188 (dk_at dksX1_size_1 21 rfl rfl)
theorem dX1_size_48 : decode cX1_size 48 = .ok (.ireturn, 1) := dk_172 (dk_at dksX1_size_2 0 rfl rfl)
abbrev cX1_open : ByteArray := prog_1_method_59_code
def yX1_open : MethodName := ⟨RX1, "open", "(I)I"⟩
def dkwX1_open_4 : List UInt8 := [180, 0, 32, 28, 27, 79, 28, 172, 132, 2, 1, 167, 255, 229, 16, 246, 172]
abbrev dktX1_open_4 : List UInt8 := dkwX1_open_4 ++ []
def dkwX1_open_3 : List UInt8 := [167, 0, 5, 16, 245, 172, 3, 61, 28, 16, 8, 162, 0, 27, 42, 180, 0, 32, 28, 46, 154, 0, 12, 42]
abbrev dktX1_open_3 : List UInt8 := dkwX1_open_3 ++ dktX1_open_4
def dkwX1_open_2 : List UInt8 := [180, 0, 54, 180, 0, 182, 5, 159, 0, 22, 42, 180, 0, 54, 180, 0, 182, 4, 160, 0, 8, 16, 249]
abbrev dktX1_open_2 : List UInt8 := dkwX1_open_2 ++ dktX1_open_3
def dkwX1_open_1 : List UInt8 := [180, 0, 54, 180, 0, 182, 5, 160, 0, 16, 42, 180, 0, 54, 180, 0, 185, 154, 0, 6, 16, 252, 172, 42]
abbrev dktX1_open_1 : List UInt8 := dkwX1_open_1 ++ dktX1_open_2
def dkwX1_open_0 : List UInt8 := [42, 180, 0, 28, 154, 0, 6, 16, 254, 172, 42, 27, 42, 180, 0, 54, 182, 0, 214, 153, 0, 24, 42]
abbrev dktX1_open_0 : List UInt8 := dkwX1_open_0 ++ dktX1_open_1
theorem dksX1_open_0 : cX1_open.data.toList.drop 0 = dktX1_open_0 := by decide +kernel
theorem dksX1_open_1 : cX1_open.data.toList.drop 23 = dktX1_open_1 := dk_seg dksX1_open_0 23 rfl rfl
theorem dksX1_open_2 : cX1_open.data.toList.drop 47 = dktX1_open_2 := dk_seg dksX1_open_1 24 rfl rfl
theorem dksX1_open_3 : cX1_open.data.toList.drop 70 = dktX1_open_3 := dk_seg dksX1_open_2 23 rfl rfl
theorem dksX1_open_4 : cX1_open.data.toList.drop 94 = dktX1_open_4 := dk_seg dksX1_open_3 24 rfl rfl
theorem dX1_open_0 : decode cX1_open 0 = .ok (.aload_n 0, 1) := dk_42 (dk_at dksX1_open_0 0 rfl rfl)
theorem dX1_open_1 : decode cX1_open 1 = .ok (.getfield 28, 3) := dk_180 0 28 (dk_at dksX1_open_0 1 rfl rfl)
theorem dX1_open_4 : decode cX1_open 4 = .ok (.ifCond .ne 6, 3) := dk_154 0 6 (dk_at dksX1_open_0 4 rfl rfl)
theorem dX1_open_7 : decode cX1_open 7 = .ok (.bipush (-2), 2) := dk_16 254 (dk_at dksX1_open_0 7 rfl rfl)
theorem dX1_open_9 : decode cX1_open 9 = .ok (.ireturn, 1) := dk_172 (dk_at dksX1_open_0 9 rfl rfl)
theorem dX1_open_10 : decode cX1_open 10 = .ok (.aload_n 0, 1) := dk_42 (dk_at dksX1_open_0 10 rfl rfl)
theorem dX1_open_11 : decode cX1_open 11 = .ok (.iload_n 1, 1) := dk_27 (dk_at dksX1_open_0 11 rfl rfl)
theorem dX1_open_12 : decode cX1_open 12 = .ok (.aload_n 0, 1) := dk_42 (dk_at dksX1_open_0 12 rfl rfl)
theorem dX1_open_13 : decode cX1_open 13 = .ok (.getfield 54, 3) := dk_180 0 54 (dk_at dksX1_open_0 13 rfl rfl)
theorem dX1_open_16 : decode cX1_open 16 = .ok (.invokevirtual 214, 3) := dk_182 0 214 (dk_at dksX1_open_0 16 rfl rfl)
theorem dX1_open_19 : decode cX1_open 19 = .ok (.ifCond .eq 24, 3) := dk_153 0 24 (dk_at dksX1_open_0 19 rfl rfl)
theorem dX1_open_22 : decode cX1_open 22 = .ok (.aload_n 0, 1) := dk_42 (dk_at dksX1_open_0 22 rfl rfl)
theorem dX1_open_23 : decode cX1_open 23 = .ok (.getfield 54, 3) := dk_180 0 54 (dk_at dksX1_open_1 0 rfl rfl)
theorem dX1_open_26 : decode cX1_open 26 = .ok (.getfield 182, 3) := dk_180 0 182 (dk_at dksX1_open_1 3 rfl rfl)
theorem dX1_open_29 : decode cX1_open 29 = .ok (.iconst 2, 1) := dk_5 (dk_at dksX1_open_1 6 rfl rfl)
theorem dX1_open_30 : decode cX1_open 30 = .ok (.if_icmp .ne 16, 3) := dk_160 0 16 (dk_at dksX1_open_1 7 rfl rfl)
theorem dX1_open_33 : decode cX1_open 33 = .ok (.aload_n 0, 1) := dk_42 (dk_at dksX1_open_1 10 rfl rfl)
theorem dX1_open_34 : decode cX1_open 34 = .ok (.getfield 54, 3) := dk_180 0 54 (dk_at dksX1_open_1 11 rfl rfl)
theorem dX1_open_37 : decode cX1_open 37 = .ok (.getfield 185, 3) := dk_180 0 185 (dk_at dksX1_open_1 14 rfl rfl)
theorem dX1_open_40 : decode cX1_open 40 = .ok (.ifCond .ne 6, 3) := dk_154 0 6 (dk_at dksX1_open_1 17 rfl rfl)
theorem dX1_open_43 : decode cX1_open 43 = .ok (.bipush (-4), 2) := dk_16 252 (dk_at dksX1_open_1 20 rfl rfl)
theorem dX1_open_45 : decode cX1_open 45 = .ok (.ireturn, 1) := dk_172 (dk_at dksX1_open_1 22 rfl rfl)
theorem dX1_open_46 : decode cX1_open 46 = .ok (.aload_n 0, 1) := dk_42 (dk_at dksX1_open_1 23 rfl rfl)
theorem dX1_open_47 : decode cX1_open 47 = .ok (.getfield 54, 3) := dk_180 0 54 (dk_at dksX1_open_2 0 rfl rfl)
theorem dX1_open_50 : decode cX1_open 50 = .ok (.getfield 182, 3) := dk_180 0 182 (dk_at dksX1_open_2 3 rfl rfl)
theorem dX1_open_53 : decode cX1_open 53 = .ok (.iconst 2, 1) := dk_5 (dk_at dksX1_open_2 6 rfl rfl)
theorem dX1_open_54 : decode cX1_open 54 = .ok (.if_icmp .eq 22, 3) := dk_159 0 22 (dk_at dksX1_open_2 7 rfl rfl)
theorem dX1_open_57 : decode cX1_open 57 = .ok (.aload_n 0, 1) := dk_42 (dk_at dksX1_open_2 10 rfl rfl)
theorem dX1_open_58 : decode cX1_open 58 = .ok (.getfield 54, 3) := dk_180 0 54 (dk_at dksX1_open_2 11 rfl rfl)
theorem dX1_open_61 : decode cX1_open 61 = .ok (.getfield 182, 3) := dk_180 0 182 (dk_at dksX1_open_2 14 rfl rfl)
theorem dX1_open_64 : decode cX1_open 64 = .ok (.iconst 1, 1) := dk_4 (dk_at dksX1_open_2 17 rfl rfl)
theorem dX1_open_65 : decode cX1_open 65 = .ok (.if_icmp .ne 8, 3) := dk_160 0 8 (dk_at dksX1_open_2 18 rfl rfl)
theorem dX1_open_68 : decode cX1_open 68 = .ok (.bipush (-7), 2) := dk_16 249 (dk_at dksX1_open_2 21 rfl rfl)
theorem dX1_open_70 : decode cX1_open 70 = .ok (.goto 5, 3) := dk_167 0 5 (dk_at dksX1_open_3 0 rfl rfl)
theorem dX1_open_73 : decode cX1_open 73 = .ok (.bipush (-11), 2) := dk_16 245 (dk_at dksX1_open_3 3 rfl rfl)
theorem dX1_open_75 : decode cX1_open 75 = .ok (.ireturn, 1) := dk_172 (dk_at dksX1_open_3 5 rfl rfl)
theorem dX1_open_76 : decode cX1_open 76 = .ok (.iconst 0, 1) := dk_3 (dk_at dksX1_open_3 6 rfl rfl)
theorem dX1_open_77 : decode cX1_open 77 = .ok (.istore_n 2, 1) := dk_61 (dk_at dksX1_open_3 7 rfl rfl)
theorem dX1_open_78 : decode cX1_open 78 = .ok (.iload_n 2, 1) := dk_28 (dk_at dksX1_open_3 8 rfl rfl)
theorem dX1_open_79 : decode cX1_open 79 = .ok (.bipush 8, 2) := dk_16 8 (dk_at dksX1_open_3 9 rfl rfl)
theorem dX1_open_81 : decode cX1_open 81 = .ok (.if_icmp .ge 27, 3) := dk_162 0 27 (dk_at dksX1_open_3 11 rfl rfl)
theorem dX1_open_84 : decode cX1_open 84 = .ok (.aload_n 0, 1) := dk_42 (dk_at dksX1_open_3 14 rfl rfl)
theorem dX1_open_85 : decode cX1_open 85 = .ok (.getfield 32, 3) := dk_180 0 32 (dk_at dksX1_open_3 15 rfl rfl)
theorem dX1_open_88 : decode cX1_open 88 = .ok (.iload_n 2, 1) := dk_28 (dk_at dksX1_open_3 18 rfl rfl)
theorem dX1_open_89 : decode cX1_open 89 = .ok (.iaload, 1) := dk_46 (dk_at dksX1_open_3 19 rfl rfl)
theorem dX1_open_90 : decode cX1_open 90 = .ok (.ifCond .ne 12, 3) := dk_154 0 12 (dk_at dksX1_open_3 20 rfl rfl)
theorem dX1_open_93 : decode cX1_open 93 = .ok (.aload_n 0, 1) := dk_42 (dk_at dksX1_open_3 23 rfl rfl)
theorem dX1_open_94 : decode cX1_open 94 = .ok (.getfield 32, 3) := dk_180 0 32 (dk_at dksX1_open_4 0 rfl rfl)
theorem dX1_open_97 : decode cX1_open 97 = .ok (.iload_n 2, 1) := dk_28 (dk_at dksX1_open_4 3 rfl rfl)
theorem dX1_open_98 : decode cX1_open 98 = .ok (.iload_n 1, 1) := dk_27 (dk_at dksX1_open_4 4 rfl rfl)
theorem dX1_open_99 : decode cX1_open 99 = .ok (.iastore, 1) := dk_79 (dk_at dksX1_open_4 5 rfl rfl)
theorem dX1_open_100 : decode cX1_open 100 = .ok (.iload_n 2, 1) := dk_28 (dk_at dksX1_open_4 6 rfl rfl)
theorem dX1_open_101 : decode cX1_open 101 = .ok (.ireturn, 1) := dk_172 (dk_at dksX1_open_4 7 rfl rfl)
theorem dX1_open_102 : decode cX1_open 102 = .ok (.iinc 2 1, 3) := dk_132 2 1 (dk_at dksX1_open_4 8 rfl rfl)
theorem dX1_open_105 : decode cX1_open 105 = .ok (.goto (-27), 3) := dk_167 255 229 (dk_at dksX1_open_4 11 rfl rfl)
theorem dX1_open_108 : decode cX1_open 108 = .ok (.bipush (-10), 2) := dk_16 246 (dk_at dksX1_open_4 14 rfl rfl)
theorem dX1_open_110 : decode cX1_open 110 = .ok (.ireturn, 1) := dk_172 (dk_at dksX1_open_4 16 rfl rfl)
abbrev cX1_close : ByteArray := prog_1_method_61_code
def yX1_close : MethodName := ⟨RX1, "close", "(I)I"⟩
def dkwX1_close_4 : List UInt8 := [181, 0, 182, 42, 182, 1, 38, 42, 42, 180, 0, 54, 4, 182, 1, 10, 42, 182, 1, 54, 4, 172]
abbrev dktX1_close_4 : List UInt8 := dkwX1_close_4 ++ []
def dkwX1_close_3 : List UInt8 := [42, 28, 182, 1, 7, 100, 181, 0, 130, 42, 89, 180, 0, 133, 4, 100, 181, 0, 133, 42, 180, 0, 54, 3]
abbrev dktX1_close_3 : List UInt8 := dkwX1_close_3 ++ dktX1_close_4
def dkwX1_close_2 : List UInt8 := [180, 0, 54, 180, 0, 185, 157, 0, 11, 42, 28, 182, 1, 3, 153, 0, 5, 3, 172, 42, 89, 180, 0, 130]
abbrev dktX1_close_2 : List UInt8 := dkwX1_close_2 ++ dktX1_close_3
def dkwX1_close_1 : List UInt8 := [180, 0, 32, 27, 46, 61, 42, 180, 0, 32, 27, 3, 79, 42, 28, 42, 180, 0, 54, 182, 0, 214, 87, 42]
abbrev dktX1_close_1 : List UInt8 := dkwX1_close_1 ++ dktX1_close_2
def dkwX1_close_0 : List UInt8 := [42, 180, 0, 28, 154, 0, 6, 16, 254, 172, 42, 27, 182, 1, 112, 154, 0, 6, 16, 253, 172, 42]
abbrev dktX1_close_0 : List UInt8 := dkwX1_close_0 ++ dktX1_close_1
theorem dksX1_close_0 : cX1_close.data.toList.drop 0 = dktX1_close_0 := by decide +kernel
theorem dksX1_close_1 : cX1_close.data.toList.drop 22 = dktX1_close_1 := dk_seg dksX1_close_0 22 rfl rfl
theorem dksX1_close_2 : cX1_close.data.toList.drop 46 = dktX1_close_2 := dk_seg dksX1_close_1 24 rfl rfl
theorem dksX1_close_3 : cX1_close.data.toList.drop 70 = dktX1_close_3 := dk_seg dksX1_close_2 24 rfl rfl
theorem dksX1_close_4 : cX1_close.data.toList.drop 94 = dktX1_close_4 := dk_seg dksX1_close_3 24 rfl rfl
theorem dX1_close_0 : decode cX1_close 0 = .ok (.aload_n 0, 1) := dk_42 (dk_at dksX1_close_0 0 rfl rfl)
theorem dX1_close_1 : decode cX1_close 1 = .ok (.getfield 28, 3) := dk_180 0 28 (dk_at dksX1_close_0 1 rfl rfl)
theorem dX1_close_4 : decode cX1_close 4 = .ok (.ifCond .ne 6, 3) := dk_154 0 6 (dk_at dksX1_close_0 4 rfl rfl)
theorem dX1_close_7 : decode cX1_close 7 = .ok (.bipush (-2), 2) := dk_16 254 (dk_at dksX1_close_0 7 rfl rfl)
theorem dX1_close_9 : decode cX1_close 9 = .ok (.ireturn, 1) := dk_172 (dk_at dksX1_close_0 9 rfl rfl)
theorem dX1_close_10 : decode cX1_close 10 = .ok (.aload_n 0, 1) := dk_42 (dk_at dksX1_close_0 10 rfl rfl)
theorem dX1_close_11 : decode cX1_close 11 = .ok (.iload_n 1, 1) := dk_27 (dk_at dksX1_close_0 11 rfl rfl)
theorem dX1_close_12 : decode cX1_close 12 = .ok (.invokevirtual 368, 3) := dk_182 1 112 (dk_at dksX1_close_0 12 rfl rfl)
theorem dX1_close_15 : decode cX1_close 15 = .ok (.ifCond .ne 6, 3) := dk_154 0 6 (dk_at dksX1_close_0 15 rfl rfl)
theorem dX1_close_18 : decode cX1_close 18 = .ok (.bipush (-3), 2) := dk_16 253 (dk_at dksX1_close_0 18 rfl rfl)
theorem dX1_close_20 : decode cX1_close 20 = .ok (.ireturn, 1) := dk_172 (dk_at dksX1_close_0 20 rfl rfl)
theorem dX1_close_21 : decode cX1_close 21 = .ok (.aload_n 0, 1) := dk_42 (dk_at dksX1_close_0 21 rfl rfl)
theorem dX1_close_22 : decode cX1_close 22 = .ok (.getfield 32, 3) := dk_180 0 32 (dk_at dksX1_close_1 0 rfl rfl)
theorem dX1_close_25 : decode cX1_close 25 = .ok (.iload_n 1, 1) := dk_27 (dk_at dksX1_close_1 3 rfl rfl)
theorem dX1_close_26 : decode cX1_close 26 = .ok (.iaload, 1) := dk_46 (dk_at dksX1_close_1 4 rfl rfl)
theorem dX1_close_27 : decode cX1_close 27 = .ok (.istore_n 2, 1) := dk_61 (dk_at dksX1_close_1 5 rfl rfl)
theorem dX1_close_28 : decode cX1_close 28 = .ok (.aload_n 0, 1) := dk_42 (dk_at dksX1_close_1 6 rfl rfl)
theorem dX1_close_29 : decode cX1_close 29 = .ok (.getfield 32, 3) := dk_180 0 32 (dk_at dksX1_close_1 7 rfl rfl)
theorem dX1_close_32 : decode cX1_close 32 = .ok (.iload_n 1, 1) := dk_27 (dk_at dksX1_close_1 10 rfl rfl)
theorem dX1_close_33 : decode cX1_close 33 = .ok (.iconst 0, 1) := dk_3 (dk_at dksX1_close_1 11 rfl rfl)
theorem dX1_close_34 : decode cX1_close 34 = .ok (.iastore, 1) := dk_79 (dk_at dksX1_close_1 12 rfl rfl)
theorem dX1_close_35 : decode cX1_close 35 = .ok (.aload_n 0, 1) := dk_42 (dk_at dksX1_close_1 13 rfl rfl)
theorem dX1_close_36 : decode cX1_close 36 = .ok (.iload_n 2, 1) := dk_28 (dk_at dksX1_close_1 14 rfl rfl)
theorem dX1_close_37 : decode cX1_close 37 = .ok (.aload_n 0, 1) := dk_42 (dk_at dksX1_close_1 15 rfl rfl)
theorem dX1_close_38 : decode cX1_close 38 = .ok (.getfield 54, 3) := dk_180 0 54 (dk_at dksX1_close_1 16 rfl rfl)
theorem dX1_close_41 : decode cX1_close 41 = .ok (.invokevirtual 214, 3) := dk_182 0 214 (dk_at dksX1_close_1 19 rfl rfl)
theorem dX1_close_44 : decode cX1_close 44 = .ok (.pop, 1) := dk_87 (dk_at dksX1_close_1 22 rfl rfl)
theorem dX1_close_45 : decode cX1_close 45 = .ok (.aload_n 0, 1) := dk_42 (dk_at dksX1_close_1 23 rfl rfl)
theorem dX1_close_46 : decode cX1_close 46 = .ok (.getfield 54, 3) := dk_180 0 54 (dk_at dksX1_close_2 0 rfl rfl)
theorem dX1_close_49 : decode cX1_close 49 = .ok (.getfield 185, 3) := dk_180 0 185 (dk_at dksX1_close_2 3 rfl rfl)
theorem dX1_close_52 : decode cX1_close 52 = .ok (.ifCond .gt 11, 3) := dk_157 0 11 (dk_at dksX1_close_2 6 rfl rfl)
theorem dX1_close_55 : decode cX1_close 55 = .ok (.aload_n 0, 1) := dk_42 (dk_at dksX1_close_2 9 rfl rfl)
theorem dX1_close_56 : decode cX1_close 56 = .ok (.iload_n 2, 1) := dk_28 (dk_at dksX1_close_2 10 rfl rfl)
theorem dX1_close_57 : decode cX1_close 57 = .ok (.invokevirtual 259, 3) := dk_182 1 3 (dk_at dksX1_close_2 11 rfl rfl)
theorem dX1_close_60 : decode cX1_close 60 = .ok (.ifCond .eq 5, 3) := dk_153 0 5 (dk_at dksX1_close_2 14 rfl rfl)
theorem dX1_close_63 : decode cX1_close 63 = .ok (.iconst 0, 1) := dk_3 (dk_at dksX1_close_2 17 rfl rfl)
theorem dX1_close_64 : decode cX1_close 64 = .ok (.ireturn, 1) := dk_172 (dk_at dksX1_close_2 18 rfl rfl)
theorem dX1_close_65 : decode cX1_close 65 = .ok (.aload_n 0, 1) := dk_42 (dk_at dksX1_close_2 19 rfl rfl)
theorem dX1_close_66 : decode cX1_close 66 = .ok (.dup, 1) := dk_89 (dk_at dksX1_close_2 20 rfl rfl)
theorem dX1_close_67 : decode cX1_close 67 = .ok (.getfield 130, 3) := dk_180 0 130 (dk_at dksX1_close_2 21 rfl rfl)
theorem dX1_close_70 : decode cX1_close 70 = .ok (.aload_n 0, 1) := dk_42 (dk_at dksX1_close_3 0 rfl rfl)
theorem dX1_close_71 : decode cX1_close 71 = .ok (.iload_n 2, 1) := dk_28 (dk_at dksX1_close_3 1 rfl rfl)
theorem dX1_close_72 : decode cX1_close 72 = .ok (.invokevirtual 263, 3) := dk_182 1 7 (dk_at dksX1_close_3 2 rfl rfl)
theorem dX1_close_75 : decode cX1_close 75 = .ok (.isub, 1) := dk_100 (dk_at dksX1_close_3 5 rfl rfl)
theorem dX1_close_76 : decode cX1_close 76 = .ok (.putfield 130, 3) := dk_181 0 130 (dk_at dksX1_close_3 6 rfl rfl)
theorem dX1_close_79 : decode cX1_close 79 = .ok (.aload_n 0, 1) := dk_42 (dk_at dksX1_close_3 9 rfl rfl)
theorem dX1_close_80 : decode cX1_close 80 = .ok (.dup, 1) := dk_89 (dk_at dksX1_close_3 10 rfl rfl)
theorem dX1_close_81 : decode cX1_close 81 = .ok (.getfield 133, 3) := dk_180 0 133 (dk_at dksX1_close_3 11 rfl rfl)
theorem dX1_close_84 : decode cX1_close 84 = .ok (.iconst 1, 1) := dk_4 (dk_at dksX1_close_3 14 rfl rfl)
theorem dX1_close_85 : decode cX1_close 85 = .ok (.isub, 1) := dk_100 (dk_at dksX1_close_3 15 rfl rfl)
theorem dX1_close_86 : decode cX1_close 86 = .ok (.putfield 133, 3) := dk_181 0 133 (dk_at dksX1_close_3 16 rfl rfl)
theorem dX1_close_89 : decode cX1_close 89 = .ok (.aload_n 0, 1) := dk_42 (dk_at dksX1_close_3 19 rfl rfl)
theorem dX1_close_90 : decode cX1_close 90 = .ok (.getfield 54, 3) := dk_180 0 54 (dk_at dksX1_close_3 20 rfl rfl)
theorem dX1_close_93 : decode cX1_close 93 = .ok (.iconst 0, 1) := dk_3 (dk_at dksX1_close_3 23 rfl rfl)
theorem dX1_close_94 : decode cX1_close 94 = .ok (.putfield 182, 3) := dk_181 0 182 (dk_at dksX1_close_4 0 rfl rfl)
theorem dX1_close_97 : decode cX1_close 97 = .ok (.aload_n 0, 1) := dk_42 (dk_at dksX1_close_4 3 rfl rfl)
theorem dX1_close_98 : decode cX1_close 98 = .ok (.invokevirtual 294, 3) := dk_182 1 38 (dk_at dksX1_close_4 4 rfl rfl)
theorem dX1_close_101 : decode cX1_close 101 = .ok (.aload_n 0, 1) := dk_42 (dk_at dksX1_close_4 7 rfl rfl)
theorem dX1_close_102 : decode cX1_close 102 = .ok (.aload_n 0, 1) := dk_42 (dk_at dksX1_close_4 8 rfl rfl)
theorem dX1_close_103 : decode cX1_close 103 = .ok (.getfield 54, 3) := dk_180 0 54 (dk_at dksX1_close_4 9 rfl rfl)
theorem dX1_close_106 : decode cX1_close 106 = .ok (.iconst 1, 1) := dk_4 (dk_at dksX1_close_4 12 rfl rfl)
theorem dX1_close_107 : decode cX1_close 107 = .ok (.invokevirtual 266, 3) := dk_182 1 10 (dk_at dksX1_close_4 13 rfl rfl)
theorem dX1_close_110 : decode cX1_close 110 = .ok (.aload_n 0, 1) := dk_42 (dk_at dksX1_close_4 16 rfl rfl)
theorem dX1_close_111 : decode cX1_close 111 = .ok (.invokevirtual 310, 3) := dk_182 1 54 (dk_at dksX1_close_4 17 rfl rfl)
theorem dX1_close_114 : decode cX1_close 114 = .ok (.iconst 1, 1) := dk_4 (dk_at dksX1_close_4 20 rfl rfl)
theorem dX1_close_115 : decode cX1_close 115 = .ok (.ireturn, 1) := dk_172 (dk_at dksX1_close_4 21 rfl rfl)
abbrev cX1_isHandle : ByteArray := prog_1_method_60_code
def yX1_isHandle : MethodName := ⟨RX1, "isHandle", "(I)Z"⟩
def dkwX1_isHandle_1 : List UInt8 := [172]
abbrev dktX1_isHandle_1 : List UInt8 := dkwX1_isHandle_1 ++ []
def dkwX1_isHandle_0 : List UInt8 := [27, 3, 16, 7, 184, 0, 89, 153, 0, 16, 42, 180, 0, 32, 27, 46, 158, 0, 7, 4, 167, 0, 4, 3]
abbrev dktX1_isHandle_0 : List UInt8 := dkwX1_isHandle_0 ++ dktX1_isHandle_1
theorem dksX1_isHandle_0 : cX1_isHandle.data.toList.drop 0 = dktX1_isHandle_0 := by decide +kernel
theorem dksX1_isHandle_1 : cX1_isHandle.data.toList.drop 24 = dktX1_isHandle_1 := dk_seg dksX1_isHandle_0 24 rfl rfl
theorem dX1_isHandle_0 : decode cX1_isHandle 0 = .ok (.iload_n 1, 1) := dk_27 (dk_at dksX1_isHandle_0 0 rfl rfl)
theorem dX1_isHandle_1 : decode cX1_isHandle 1 = .ok (.iconst 0, 1) := dk_3 (dk_at dksX1_isHandle_0 1 rfl rfl)
theorem dX1_isHandle_2 : decode cX1_isHandle 2 = .ok (.bipush 7, 2) := dk_16 7 (dk_at dksX1_isHandle_0 2 rfl rfl)
theorem dX1_isHandle_4 : decode cX1_isHandle 4 = .ok (.invokestatic 89, 3) := dk_184 0 89 (dk_at dksX1_isHandle_0 4 rfl rfl)
theorem dX1_isHandle_7 : decode cX1_isHandle 7 = .ok (.ifCond .eq 16, 3) := dk_153 0 16 (dk_at dksX1_isHandle_0 7 rfl rfl)
theorem dX1_isHandle_10 : decode cX1_isHandle 10 = .ok (.aload_n 0, 1) := dk_42 (dk_at dksX1_isHandle_0 10 rfl rfl)
theorem dX1_isHandle_11 : decode cX1_isHandle 11 = .ok (.getfield 32, 3) := dk_180 0 32 (dk_at dksX1_isHandle_0 11 rfl rfl)
theorem dX1_isHandle_14 : decode cX1_isHandle 14 = .ok (.iload_n 1, 1) := dk_27 (dk_at dksX1_isHandle_0 14 rfl rfl)
theorem dX1_isHandle_15 : decode cX1_isHandle 15 = .ok (.iaload, 1) := dk_46 (dk_at dksX1_isHandle_0 15 rfl rfl)
theorem dX1_isHandle_16 : decode cX1_isHandle 16 = .ok (.ifCond .le 7, 3) := dk_158 0 7 (dk_at dksX1_isHandle_0 16 rfl rfl)
theorem dX1_isHandle_19 : decode cX1_isHandle 19 = .ok (.iconst 1, 1) := dk_4 (dk_at dksX1_isHandle_0 19 rfl rfl)
theorem dX1_isHandle_20 : decode cX1_isHandle 20 = .ok (.goto 4, 3) := dk_167 0 4 (dk_at dksX1_isHandle_0 20 rfl rfl)
theorem dX1_isHandle_23 : decode cX1_isHandle 23 = .ok (.iconst 0, 1) := dk_3 (dk_at dksX1_isHandle_0 23 rfl rfl)
theorem dX1_isHandle_24 : decode cX1_isHandle 24 = .ok (.ireturn, 1) := dk_172 (dk_at dksX1_isHandle_1 0 rfl rfl)
abbrev cX1_opened : ByteArray := prog_1_method_62_code
def yX1_opened : MethodName := ⟨RX1, "opened", "(I)I"⟩
def dkwX1_opened_1 : List UInt8 := [27, 46, 167, 0, 4, 2, 172]
abbrev dktX1_opened_1 : List UInt8 := dkwX1_opened_1 ++ []
def dkwX1_opened_0 : List UInt8 := [42, 180, 0, 28, 154, 0, 8, 16, 254, 167, 0, 21, 42, 27, 182, 1, 112, 153, 0, 12, 42, 180, 0, 32]
abbrev dktX1_opened_0 : List UInt8 := dkwX1_opened_0 ++ dktX1_opened_1
theorem dksX1_opened_0 : cX1_opened.data.toList.drop 0 = dktX1_opened_0 := by decide +kernel
theorem dksX1_opened_1 : cX1_opened.data.toList.drop 24 = dktX1_opened_1 := dk_seg dksX1_opened_0 24 rfl rfl
theorem dX1_opened_0 : decode cX1_opened 0 = .ok (.aload_n 0, 1) := dk_42 (dk_at dksX1_opened_0 0 rfl rfl)
theorem dX1_opened_1 : decode cX1_opened 1 = .ok (.getfield 28, 3) := dk_180 0 28 (dk_at dksX1_opened_0 1 rfl rfl)
theorem dX1_opened_4 : decode cX1_opened 4 = .ok (.ifCond .ne 8, 3) := dk_154 0 8 (dk_at dksX1_opened_0 4 rfl rfl)
theorem dX1_opened_7 : decode cX1_opened 7 = .ok (.bipush (-2), 2) := dk_16 254 (dk_at dksX1_opened_0 7 rfl rfl)
theorem dX1_opened_9 : decode cX1_opened 9 = .ok (.goto 21, 3) := dk_167 0 21 (dk_at dksX1_opened_0 9 rfl rfl)
theorem dX1_opened_12 : decode cX1_opened 12 = .ok (.aload_n 0, 1) := dk_42 (dk_at dksX1_opened_0 12 rfl rfl)
theorem dX1_opened_13 : decode cX1_opened 13 = .ok (.iload_n 1, 1) := dk_27 (dk_at dksX1_opened_0 13 rfl rfl)
theorem dX1_opened_14 : decode cX1_opened 14 = .ok (.invokevirtual 368, 3) := dk_182 1 112 (dk_at dksX1_opened_0 14 rfl rfl)
theorem dX1_opened_17 : decode cX1_opened 17 = .ok (.ifCond .eq 12, 3) := dk_153 0 12 (dk_at dksX1_opened_0 17 rfl rfl)
theorem dX1_opened_20 : decode cX1_opened 20 = .ok (.aload_n 0, 1) := dk_42 (dk_at dksX1_opened_0 20 rfl rfl)
theorem dX1_opened_21 : decode cX1_opened 21 = .ok (.getfield 32, 3) := dk_180 0 32 (dk_at dksX1_opened_0 21 rfl rfl)
theorem dX1_opened_24 : decode cX1_opened 24 = .ok (.iload_n 1, 1) := dk_27 (dk_at dksX1_opened_1 0 rfl rfl)
theorem dX1_opened_25 : decode cX1_opened 25 = .ok (.iaload, 1) := dk_46 (dk_at dksX1_opened_1 1 rfl rfl)
theorem dX1_opened_26 : decode cX1_opened 26 = .ok (.goto 4, 3) := dk_167 0 4 (dk_at dksX1_opened_1 2 rfl rfl)
theorem dX1_opened_29 : decode cX1_opened 29 = .ok (.iconst (-1), 1) := dk_2 (dk_at dksX1_opened_1 5 rfl rfl)
theorem dX1_opened_30 : decode cX1_opened 30 = .ok (.ireturn, 1) := dk_172 (dk_at dksX1_opened_1 6 rfl rfl)
abbrev cX1_write : ByteArray := prog_1_method_66_code
def yX1_write : MethodName := ⟨RX1, "write", "(IIJI)I"⟩
def dkwX1_write_2 : List UInt8 := [42, 180, 0, 32, 27, 46, 28, 21, 5, 3, 33, 182, 1, 125, 172]
abbrev dktX1_write_2 : List UInt8 := dkwX1_write_2 ++ []
def dkwX1_write_1 : List UInt8 := [184, 0, 89, 153, 0, 17, 28, 3, 17, 64, 0, 21, 5, 100, 184, 0, 89, 154, 0, 6, 16, 253, 172, 42]
abbrev dktX1_write_1 : List UInt8 := dkwX1_write_1 ++ dktX1_write_2
def dkwX1_write_0 : List UInt8 := [42, 180, 0, 28, 154, 0, 6, 16, 254, 172, 42, 27, 182, 1, 112, 153, 0, 28, 21, 5, 4, 16, 8]
abbrev dktX1_write_0 : List UInt8 := dkwX1_write_0 ++ dktX1_write_1
theorem dksX1_write_0 : cX1_write.data.toList.drop 0 = dktX1_write_0 := by decide +kernel
theorem dksX1_write_1 : cX1_write.data.toList.drop 23 = dktX1_write_1 := dk_seg dksX1_write_0 23 rfl rfl
theorem dksX1_write_2 : cX1_write.data.toList.drop 47 = dktX1_write_2 := dk_seg dksX1_write_1 24 rfl rfl
theorem dX1_write_0 : decode cX1_write 0 = .ok (.aload_n 0, 1) := dk_42 (dk_at dksX1_write_0 0 rfl rfl)
theorem dX1_write_1 : decode cX1_write 1 = .ok (.getfield 28, 3) := dk_180 0 28 (dk_at dksX1_write_0 1 rfl rfl)
theorem dX1_write_4 : decode cX1_write 4 = .ok (.ifCond .ne 6, 3) := dk_154 0 6 (dk_at dksX1_write_0 4 rfl rfl)
theorem dX1_write_7 : decode cX1_write 7 = .ok (.bipush (-2), 2) := dk_16 254 (dk_at dksX1_write_0 7 rfl rfl)
theorem dX1_write_9 : decode cX1_write 9 = .ok (.ireturn, 1) := dk_172 (dk_at dksX1_write_0 9 rfl rfl)
theorem dX1_write_10 : decode cX1_write 10 = .ok (.aload_n 0, 1) := dk_42 (dk_at dksX1_write_0 10 rfl rfl)
theorem dX1_write_11 : decode cX1_write 11 = .ok (.iload_n 1, 1) := dk_27 (dk_at dksX1_write_0 11 rfl rfl)
theorem dX1_write_12 : decode cX1_write 12 = .ok (.invokevirtual 368, 3) := dk_182 1 112 (dk_at dksX1_write_0 12 rfl rfl)
theorem dX1_write_15 : decode cX1_write 15 = .ok (.ifCond .eq 28, 3) := dk_153 0 28 (dk_at dksX1_write_0 15 rfl rfl)
theorem dX1_write_18 : decode cX1_write 18 = .ok (.iload 5, 2) := dk_21 5 (dk_at dksX1_write_0 18 rfl rfl)
theorem dX1_write_20 : decode cX1_write 20 = .ok (.iconst 1, 1) := dk_4 (dk_at dksX1_write_0 20 rfl rfl)
theorem dX1_write_21 : decode cX1_write 21 = .ok (.bipush 8, 2) := dk_16 8 (dk_at dksX1_write_0 21 rfl rfl)
theorem dX1_write_23 : decode cX1_write 23 = .ok (.invokestatic 89, 3) := dk_184 0 89 (dk_at dksX1_write_1 0 rfl rfl)
theorem dX1_write_26 : decode cX1_write 26 = .ok (.ifCond .eq 17, 3) := dk_153 0 17 (dk_at dksX1_write_1 3 rfl rfl)
theorem dX1_write_29 : decode cX1_write 29 = .ok (.iload_n 2, 1) := dk_28 (dk_at dksX1_write_1 6 rfl rfl)
theorem dX1_write_30 : decode cX1_write 30 = .ok (.iconst 0, 1) := dk_3 (dk_at dksX1_write_1 7 rfl rfl)
theorem dX1_write_31 : decode cX1_write 31 = .ok (.sipush 16384, 3) := dk_17 64 0 (dk_at dksX1_write_1 8 rfl rfl)
theorem dX1_write_34 : decode cX1_write 34 = .ok (.iload 5, 2) := dk_21 5 (dk_at dksX1_write_1 11 rfl rfl)
theorem dX1_write_36 : decode cX1_write 36 = .ok (.isub, 1) := dk_100 (dk_at dksX1_write_1 13 rfl rfl)
theorem dX1_write_37 : decode cX1_write 37 = .ok (.invokestatic 89, 3) := dk_184 0 89 (dk_at dksX1_write_1 14 rfl rfl)
theorem dX1_write_40 : decode cX1_write 40 = .ok (.ifCond .ne 6, 3) := dk_154 0 6 (dk_at dksX1_write_1 17 rfl rfl)
theorem dX1_write_43 : decode cX1_write 43 = .ok (.bipush (-3), 2) := dk_16 253 (dk_at dksX1_write_1 20 rfl rfl)
theorem dX1_write_45 : decode cX1_write 45 = .ok (.ireturn, 1) := dk_172 (dk_at dksX1_write_1 22 rfl rfl)
theorem dX1_write_46 : decode cX1_write 46 = .ok (.aload_n 0, 1) := dk_42 (dk_at dksX1_write_1 23 rfl rfl)
theorem dX1_write_47 : decode cX1_write 47 = .ok (.aload_n 0, 1) := dk_42 (dk_at dksX1_write_2 0 rfl rfl)
theorem dX1_write_48 : decode cX1_write 48 = .ok (.getfield 32, 3) := dk_180 0 32 (dk_at dksX1_write_2 1 rfl rfl)
theorem dX1_write_51 : decode cX1_write 51 = .ok (.iload_n 1, 1) := dk_27 (dk_at dksX1_write_2 4 rfl rfl)
theorem dX1_write_52 : decode cX1_write 52 = .ok (.iaload, 1) := dk_46 (dk_at dksX1_write_2 5 rfl rfl)
theorem dX1_write_53 : decode cX1_write 53 = .ok (.iload_n 2, 1) := dk_28 (dk_at dksX1_write_2 6 rfl rfl)
theorem dX1_write_54 : decode cX1_write 54 = .ok (.iload 5, 2) := dk_21 5 (dk_at dksX1_write_2 7 rfl rfl)
theorem dX1_write_56 : decode cX1_write 56 = .ok (.iconst 0, 1) := dk_3 (dk_at dksX1_write_2 9 rfl rfl)
theorem dX1_write_57 : decode cX1_write 57 = .ok (.lload_n 3, 1) := dk_33 (dk_at dksX1_write_2 10 rfl rfl)
theorem dX1_write_58 : decode cX1_write 58 = .ok (.invokevirtual 381, 3) := dk_182 1 125 (dk_at dksX1_write_2 11 rfl rfl)
theorem dX1_write_61 : decode cX1_write 61 = .ok (.ireturn, 1) := dk_172 (dk_at dksX1_write_2 14 rfl rfl)
abbrev cX1_put : ByteArray := prog_1_method_70_code
def yX1_put : MethodName := ⟨RX1, "put", "(IIIIJ)I"⟩
def dkwX1_put_9 : List UInt8 := [21, 13, 96, 181, 0, 130, 21, 7, 21, 10, 96, 54, 7, 167, 255, 35, 29, 172]
abbrev dktX1_put_9 : List UInt8 := dkwX1_put_9 ++ []
def dkwX1_put_8 : List UInt8 := [21, 12, 182, 1, 50, 42, 42, 180, 0, 54, 4, 182, 1, 10, 42, 182, 1, 54, 42, 89, 180, 0, 130]
abbrev dktX1_put_8 : List UInt8 := dkwX1_put_8 ++ dktX1_put_9
def dkwX1_put_7 : List UInt8 := [180, 0, 188, 28, 21, 7, 96, 21, 10, 96, 184, 1, 135, 181, 0, 188, 42, 182, 1, 38, 42, 27, 21, 8]
abbrev dktX1_put_7 : List UInt8 := dkwX1_put_7 ++ dktX1_put_8
def dkwX1_put_6 : List UInt8 := [132, 14, 1, 167, 255, 223, 42, 27, 42, 180, 0, 54, 182, 0, 214, 87, 42, 180, 0, 54, 42, 180, 0, 54]
abbrev dktX1_put_6 : List UInt8 := dkwX1_put_6 ++ dktX1_put_7
def dkwX1_put_5 : List UInt8 := [180, 0, 47, 21, 9, 21, 14, 96, 42, 21, 4, 22, 5, 21, 7, 21, 14, 96, 182, 1, 138, 84]
abbrev dktX1_put_5 : List UInt8 := dkwX1_put_5 ++ dktX1_put_6
def dkwX1_put_4 : List UInt8 := [154, 0, 8, 16, 246, 167, 0, 5, 21, 7, 172, 3, 54, 14, 21, 14, 21, 10, 162, 0, 32, 42]
abbrev dktX1_put_4 : List UInt8 := dkwX1_put_4 ++ dktX1_put_5
def dkwX1_put_3 : List UInt8 := [100, 54, 13, 21, 13, 158, 0, 30, 42, 180, 0, 130, 21, 13, 96, 42, 180, 0, 121, 164, 0, 16, 21, 7]
abbrev dktX1_put_3 : List UInt8 := dkwX1_put_3 ++ dktX1_put_4
def dkwX1_put_2 : List UInt8 := [54, 11, 21, 11, 21, 9, 21, 10, 96, 184, 1, 135, 54, 12, 21, 12, 184, 1, 33, 21, 11, 184, 1, 33]
abbrev dktX1_put_2 : List UInt8 := dkwX1_put_2 ++ dktX1_put_3
def dkwX1_put_1 : List UInt8 := [112, 54, 9, 29, 21, 7, 100, 16, 64, 21, 9, 100, 184, 1, 128, 54, 10, 42, 27, 21, 8, 182, 1, 100]
abbrev dktX1_put_1 : List UInt8 := dkwX1_put_1 ++ dktX1_put_2
def dkwX1_put_0 : List UInt8 := [3, 54, 7, 21, 7, 29, 162, 0, 221, 28, 21, 7, 96, 16, 64, 108, 54, 8, 28, 21, 7, 96, 16, 64]
abbrev dktX1_put_0 : List UInt8 := dkwX1_put_0 ++ dktX1_put_1
theorem dksX1_put_0 : cX1_put.data.toList.drop 0 = dktX1_put_0 := by decide +kernel
theorem dksX1_put_1 : cX1_put.data.toList.drop 24 = dktX1_put_1 := dk_seg dksX1_put_0 24 rfl rfl
theorem dksX1_put_2 : cX1_put.data.toList.drop 48 = dktX1_put_2 := dk_seg dksX1_put_1 24 rfl rfl
theorem dksX1_put_3 : cX1_put.data.toList.drop 72 = dktX1_put_3 := dk_seg dksX1_put_2 24 rfl rfl
theorem dksX1_put_4 : cX1_put.data.toList.drop 96 = dktX1_put_4 := dk_seg dksX1_put_3 24 rfl rfl
theorem dksX1_put_5 : cX1_put.data.toList.drop 118 = dktX1_put_5 := dk_seg dksX1_put_4 22 rfl rfl
theorem dksX1_put_6 : cX1_put.data.toList.drop 140 = dktX1_put_6 := dk_seg dksX1_put_5 22 rfl rfl
theorem dksX1_put_7 : cX1_put.data.toList.drop 164 = dktX1_put_7 := dk_seg dksX1_put_6 24 rfl rfl
theorem dksX1_put_8 : cX1_put.data.toList.drop 188 = dktX1_put_8 := dk_seg dksX1_put_7 24 rfl rfl
theorem dksX1_put_9 : cX1_put.data.toList.drop 211 = dktX1_put_9 := dk_seg dksX1_put_8 23 rfl rfl
theorem dX1_put_0 : decode cX1_put 0 = .ok (.iconst 0, 1) := dk_3 (dk_at dksX1_put_0 0 rfl rfl)
theorem dX1_put_1 : decode cX1_put 1 = .ok (.istore 7, 2) := dk_54 7 (dk_at dksX1_put_0 1 rfl rfl)
theorem dX1_put_3 : decode cX1_put 3 = .ok (.iload 7, 2) := dk_21 7 (dk_at dksX1_put_0 3 rfl rfl)
theorem dX1_put_5 : decode cX1_put 5 = .ok (.iload_n 3, 1) := dk_29 (dk_at dksX1_put_0 5 rfl rfl)
theorem dX1_put_6 : decode cX1_put 6 = .ok (.if_icmp .ge 221, 3) := dk_162 0 221 (dk_at dksX1_put_0 6 rfl rfl)
theorem dX1_put_9 : decode cX1_put 9 = .ok (.iload_n 2, 1) := dk_28 (dk_at dksX1_put_0 9 rfl rfl)
theorem dX1_put_10 : decode cX1_put 10 = .ok (.iload 7, 2) := dk_21 7 (dk_at dksX1_put_0 10 rfl rfl)
theorem dX1_put_12 : decode cX1_put 12 = .ok (.iadd, 1) := dk_96 (dk_at dksX1_put_0 12 rfl rfl)
theorem dX1_put_13 : decode cX1_put 13 = .ok (.bipush 64, 2) := dk_16 64 (dk_at dksX1_put_0 13 rfl rfl)
theorem dX1_put_15 : decode cX1_put 15 = .ok (.idiv, 1) := dk_108 (dk_at dksX1_put_0 15 rfl rfl)
theorem dX1_put_16 : decode cX1_put 16 = .ok (.istore 8, 2) := dk_54 8 (dk_at dksX1_put_0 16 rfl rfl)
theorem dX1_put_18 : decode cX1_put 18 = .ok (.iload_n 2, 1) := dk_28 (dk_at dksX1_put_0 18 rfl rfl)
theorem dX1_put_19 : decode cX1_put 19 = .ok (.iload 7, 2) := dk_21 7 (dk_at dksX1_put_0 19 rfl rfl)
theorem dX1_put_21 : decode cX1_put 21 = .ok (.iadd, 1) := dk_96 (dk_at dksX1_put_0 21 rfl rfl)
theorem dX1_put_22 : decode cX1_put 22 = .ok (.bipush 64, 2) := dk_16 64 (dk_at dksX1_put_0 22 rfl rfl)
theorem dX1_put_24 : decode cX1_put 24 = .ok (.irem, 1) := dk_112 (dk_at dksX1_put_1 0 rfl rfl)
theorem dX1_put_25 : decode cX1_put 25 = .ok (.istore 9, 2) := dk_54 9 (dk_at dksX1_put_1 1 rfl rfl)
theorem dX1_put_27 : decode cX1_put 27 = .ok (.iload_n 3, 1) := dk_29 (dk_at dksX1_put_1 3 rfl rfl)
theorem dX1_put_28 : decode cX1_put 28 = .ok (.iload 7, 2) := dk_21 7 (dk_at dksX1_put_1 4 rfl rfl)
theorem dX1_put_30 : decode cX1_put 30 = .ok (.isub, 1) := dk_100 (dk_at dksX1_put_1 6 rfl rfl)
theorem dX1_put_31 : decode cX1_put 31 = .ok (.bipush 64, 2) := dk_16 64 (dk_at dksX1_put_1 7 rfl rfl)
theorem dX1_put_33 : decode cX1_put 33 = .ok (.iload 9, 2) := dk_21 9 (dk_at dksX1_put_1 9 rfl rfl)
theorem dX1_put_35 : decode cX1_put 35 = .ok (.isub, 1) := dk_100 (dk_at dksX1_put_1 11 rfl rfl)
theorem dX1_put_36 : decode cX1_put 36 = .ok (.invokestatic 384, 3) := dk_184 1 128 (dk_at dksX1_put_1 12 rfl rfl)
theorem dX1_put_39 : decode cX1_put 39 = .ok (.istore 10, 2) := dk_54 10 (dk_at dksX1_put_1 15 rfl rfl)
theorem dX1_put_41 : decode cX1_put 41 = .ok (.aload_n 0, 1) := dk_42 (dk_at dksX1_put_1 17 rfl rfl)
theorem dX1_put_42 : decode cX1_put 42 = .ok (.iload_n 1, 1) := dk_27 (dk_at dksX1_put_1 18 rfl rfl)
theorem dX1_put_43 : decode cX1_put 43 = .ok (.iload 8, 2) := dk_21 8 (dk_at dksX1_put_1 19 rfl rfl)
theorem dX1_put_45 : decode cX1_put 45 = .ok (.invokevirtual 356, 3) := dk_182 1 100 (dk_at dksX1_put_1 21 rfl rfl)
theorem dX1_put_48 : decode cX1_put 48 = .ok (.istore 11, 2) := dk_54 11 (dk_at dksX1_put_2 0 rfl rfl)
theorem dX1_put_50 : decode cX1_put 50 = .ok (.iload 11, 2) := dk_21 11 (dk_at dksX1_put_2 2 rfl rfl)
theorem dX1_put_52 : decode cX1_put 52 = .ok (.iload 9, 2) := dk_21 9 (dk_at dksX1_put_2 4 rfl rfl)
theorem dX1_put_54 : decode cX1_put 54 = .ok (.iload 10, 2) := dk_21 10 (dk_at dksX1_put_2 6 rfl rfl)
theorem dX1_put_56 : decode cX1_put 56 = .ok (.iadd, 1) := dk_96 (dk_at dksX1_put_2 8 rfl rfl)
theorem dX1_put_57 : decode cX1_put 57 = .ok (.invokestatic 391, 3) := dk_184 1 135 (dk_at dksX1_put_2 9 rfl rfl)
theorem dX1_put_60 : decode cX1_put 60 = .ok (.istore 12, 2) := dk_54 12 (dk_at dksX1_put_2 12 rfl rfl)
theorem dX1_put_62 : decode cX1_put 62 = .ok (.iload 12, 2) := dk_21 12 (dk_at dksX1_put_2 14 rfl rfl)
theorem dX1_put_64 : decode cX1_put 64 = .ok (.invokestatic 289, 3) := dk_184 1 33 (dk_at dksX1_put_2 16 rfl rfl)
theorem dX1_put_67 : decode cX1_put 67 = .ok (.iload 11, 2) := dk_21 11 (dk_at dksX1_put_2 19 rfl rfl)
theorem dX1_put_69 : decode cX1_put 69 = .ok (.invokestatic 289, 3) := dk_184 1 33 (dk_at dksX1_put_2 21 rfl rfl)
theorem dX1_put_72 : decode cX1_put 72 = .ok (.isub, 1) := dk_100 (dk_at dksX1_put_3 0 rfl rfl)
theorem dX1_put_73 : decode cX1_put 73 = .ok (.istore 13, 2) := dk_54 13 (dk_at dksX1_put_3 1 rfl rfl)
theorem dX1_put_75 : decode cX1_put 75 = .ok (.iload 13, 2) := dk_21 13 (dk_at dksX1_put_3 3 rfl rfl)
theorem dX1_put_77 : decode cX1_put 77 = .ok (.ifCond .le 30, 3) := dk_158 0 30 (dk_at dksX1_put_3 5 rfl rfl)
theorem dX1_put_80 : decode cX1_put 80 = .ok (.aload_n 0, 1) := dk_42 (dk_at dksX1_put_3 8 rfl rfl)
theorem dX1_put_81 : decode cX1_put 81 = .ok (.getfield 130, 3) := dk_180 0 130 (dk_at dksX1_put_3 9 rfl rfl)
theorem dX1_put_84 : decode cX1_put 84 = .ok (.iload 13, 2) := dk_21 13 (dk_at dksX1_put_3 12 rfl rfl)
theorem dX1_put_86 : decode cX1_put 86 = .ok (.iadd, 1) := dk_96 (dk_at dksX1_put_3 14 rfl rfl)
theorem dX1_put_87 : decode cX1_put 87 = .ok (.aload_n 0, 1) := dk_42 (dk_at dksX1_put_3 15 rfl rfl)
theorem dX1_put_88 : decode cX1_put 88 = .ok (.getfield 121, 3) := dk_180 0 121 (dk_at dksX1_put_3 16 rfl rfl)
theorem dX1_put_91 : decode cX1_put 91 = .ok (.if_icmp .le 16, 3) := dk_164 0 16 (dk_at dksX1_put_3 19 rfl rfl)
theorem dX1_put_94 : decode cX1_put 94 = .ok (.iload 7, 2) := dk_21 7 (dk_at dksX1_put_3 22 rfl rfl)
theorem dX1_put_96 : decode cX1_put 96 = .ok (.ifCond .ne 8, 3) := dk_154 0 8 (dk_at dksX1_put_4 0 rfl rfl)
theorem dX1_put_99 : decode cX1_put 99 = .ok (.bipush (-10), 2) := dk_16 246 (dk_at dksX1_put_4 3 rfl rfl)
theorem dX1_put_101 : decode cX1_put 101 = .ok (.goto 5, 3) := dk_167 0 5 (dk_at dksX1_put_4 5 rfl rfl)
theorem dX1_put_104 : decode cX1_put 104 = .ok (.iload 7, 2) := dk_21 7 (dk_at dksX1_put_4 8 rfl rfl)
theorem dX1_put_106 : decode cX1_put 106 = .ok (.ireturn, 1) := dk_172 (dk_at dksX1_put_4 10 rfl rfl)
theorem dX1_put_107 : decode cX1_put 107 = .ok (.iconst 0, 1) := dk_3 (dk_at dksX1_put_4 11 rfl rfl)
theorem dX1_put_108 : decode cX1_put 108 = .ok (.istore 14, 2) := dk_54 14 (dk_at dksX1_put_4 12 rfl rfl)
theorem dX1_put_110 : decode cX1_put 110 = .ok (.iload 14, 2) := dk_21 14 (dk_at dksX1_put_4 14 rfl rfl)
theorem dX1_put_112 : decode cX1_put 112 = .ok (.iload 10, 2) := dk_21 10 (dk_at dksX1_put_4 16 rfl rfl)
theorem dX1_put_114 : decode cX1_put 114 = .ok (.if_icmp .ge 32, 3) := dk_162 0 32 (dk_at dksX1_put_4 18 rfl rfl)
theorem dX1_put_117 : decode cX1_put 117 = .ok (.aload_n 0, 1) := dk_42 (dk_at dksX1_put_4 21 rfl rfl)
theorem dX1_put_118 : decode cX1_put 118 = .ok (.getfield 47, 3) := dk_180 0 47 (dk_at dksX1_put_5 0 rfl rfl)
theorem dX1_put_121 : decode cX1_put 121 = .ok (.iload 9, 2) := dk_21 9 (dk_at dksX1_put_5 3 rfl rfl)
theorem dX1_put_123 : decode cX1_put 123 = .ok (.iload 14, 2) := dk_21 14 (dk_at dksX1_put_5 5 rfl rfl)
theorem dX1_put_125 : decode cX1_put 125 = .ok (.iadd, 1) := dk_96 (dk_at dksX1_put_5 7 rfl rfl)
theorem dX1_put_126 : decode cX1_put 126 = .ok (.aload_n 0, 1) := dk_42 (dk_at dksX1_put_5 8 rfl rfl)
theorem dX1_put_127 : decode cX1_put 127 = .ok (.iload 4, 2) := dk_21 4 (dk_at dksX1_put_5 9 rfl rfl)
theorem dX1_put_129 : decode cX1_put 129 = .ok (.lload 5, 2) := dk_22 5 (dk_at dksX1_put_5 11 rfl rfl)
theorem dX1_put_131 : decode cX1_put 131 = .ok (.iload 7, 2) := dk_21 7 (dk_at dksX1_put_5 13 rfl rfl)
theorem dX1_put_133 : decode cX1_put 133 = .ok (.iload 14, 2) := dk_21 14 (dk_at dksX1_put_5 15 rfl rfl)
theorem dX1_put_135 : decode cX1_put 135 = .ok (.iadd, 1) := dk_96 (dk_at dksX1_put_5 17 rfl rfl)
theorem dX1_put_136 : decode cX1_put 136 = .ok (.invokevirtual 394, 3) := dk_182 1 138 (dk_at dksX1_put_5 18 rfl rfl)
theorem dX1_put_139 : decode cX1_put 139 = .ok (.bastore, 1) := dk_84 (dk_at dksX1_put_5 21 rfl rfl)
theorem dX1_put_140 : decode cX1_put 140 = .ok (.iinc 14 1, 3) := dk_132 14 1 (dk_at dksX1_put_6 0 rfl rfl)
theorem dX1_put_143 : decode cX1_put 143 = .ok (.goto (-33), 3) := dk_167 255 223 (dk_at dksX1_put_6 3 rfl rfl)
theorem dX1_put_146 : decode cX1_put 146 = .ok (.aload_n 0, 1) := dk_42 (dk_at dksX1_put_6 6 rfl rfl)
theorem dX1_put_147 : decode cX1_put 147 = .ok (.iload_n 1, 1) := dk_27 (dk_at dksX1_put_6 7 rfl rfl)
theorem dX1_put_148 : decode cX1_put 148 = .ok (.aload_n 0, 1) := dk_42 (dk_at dksX1_put_6 8 rfl rfl)
theorem dX1_put_149 : decode cX1_put 149 = .ok (.getfield 54, 3) := dk_180 0 54 (dk_at dksX1_put_6 9 rfl rfl)
theorem dX1_put_152 : decode cX1_put 152 = .ok (.invokevirtual 214, 3) := dk_182 0 214 (dk_at dksX1_put_6 12 rfl rfl)
theorem dX1_put_155 : decode cX1_put 155 = .ok (.pop, 1) := dk_87 (dk_at dksX1_put_6 15 rfl rfl)
theorem dX1_put_156 : decode cX1_put 156 = .ok (.aload_n 0, 1) := dk_42 (dk_at dksX1_put_6 16 rfl rfl)
theorem dX1_put_157 : decode cX1_put 157 = .ok (.getfield 54, 3) := dk_180 0 54 (dk_at dksX1_put_6 17 rfl rfl)
theorem dX1_put_160 : decode cX1_put 160 = .ok (.aload_n 0, 1) := dk_42 (dk_at dksX1_put_6 20 rfl rfl)
theorem dX1_put_161 : decode cX1_put 161 = .ok (.getfield 54, 3) := dk_180 0 54 (dk_at dksX1_put_6 21 rfl rfl)
theorem dX1_put_164 : decode cX1_put 164 = .ok (.getfield 188, 3) := dk_180 0 188 (dk_at dksX1_put_7 0 rfl rfl)
theorem dX1_put_167 : decode cX1_put 167 = .ok (.iload_n 2, 1) := dk_28 (dk_at dksX1_put_7 3 rfl rfl)
theorem dX1_put_168 : decode cX1_put 168 = .ok (.iload 7, 2) := dk_21 7 (dk_at dksX1_put_7 4 rfl rfl)
theorem dX1_put_170 : decode cX1_put 170 = .ok (.iadd, 1) := dk_96 (dk_at dksX1_put_7 6 rfl rfl)
theorem dX1_put_171 : decode cX1_put 171 = .ok (.iload 10, 2) := dk_21 10 (dk_at dksX1_put_7 7 rfl rfl)
theorem dX1_put_173 : decode cX1_put 173 = .ok (.iadd, 1) := dk_96 (dk_at dksX1_put_7 9 rfl rfl)
theorem dX1_put_174 : decode cX1_put 174 = .ok (.invokestatic 391, 3) := dk_184 1 135 (dk_at dksX1_put_7 10 rfl rfl)
theorem dX1_put_177 : decode cX1_put 177 = .ok (.putfield 188, 3) := dk_181 0 188 (dk_at dksX1_put_7 13 rfl rfl)
theorem dX1_put_180 : decode cX1_put 180 = .ok (.aload_n 0, 1) := dk_42 (dk_at dksX1_put_7 16 rfl rfl)
theorem dX1_put_181 : decode cX1_put 181 = .ok (.invokevirtual 294, 3) := dk_182 1 38 (dk_at dksX1_put_7 17 rfl rfl)
theorem dX1_put_184 : decode cX1_put 184 = .ok (.aload_n 0, 1) := dk_42 (dk_at dksX1_put_7 20 rfl rfl)
theorem dX1_put_185 : decode cX1_put 185 = .ok (.iload_n 1, 1) := dk_27 (dk_at dksX1_put_7 21 rfl rfl)
theorem dX1_put_186 : decode cX1_put 186 = .ok (.iload 8, 2) := dk_21 8 (dk_at dksX1_put_7 22 rfl rfl)
theorem dX1_put_188 : decode cX1_put 188 = .ok (.iload 12, 2) := dk_21 12 (dk_at dksX1_put_8 0 rfl rfl)
theorem dX1_put_190 : decode cX1_put 190 = .ok (.invokevirtual 306, 3) := dk_182 1 50 (dk_at dksX1_put_8 2 rfl rfl)
theorem dX1_put_193 : decode cX1_put 193 = .ok (.aload_n 0, 1) := dk_42 (dk_at dksX1_put_8 5 rfl rfl)
theorem dX1_put_194 : decode cX1_put 194 = .ok (.aload_n 0, 1) := dk_42 (dk_at dksX1_put_8 6 rfl rfl)
theorem dX1_put_195 : decode cX1_put 195 = .ok (.getfield 54, 3) := dk_180 0 54 (dk_at dksX1_put_8 7 rfl rfl)
theorem dX1_put_198 : decode cX1_put 198 = .ok (.iconst 1, 1) := dk_4 (dk_at dksX1_put_8 10 rfl rfl)
theorem dX1_put_199 : decode cX1_put 199 = .ok (.invokevirtual 266, 3) := dk_182 1 10 (dk_at dksX1_put_8 11 rfl rfl)
theorem dX1_put_202 : decode cX1_put 202 = .ok (.aload_n 0, 1) := dk_42 (dk_at dksX1_put_8 14 rfl rfl)
theorem dX1_put_203 : decode cX1_put 203 = .ok (.invokevirtual 310, 3) := dk_182 1 54 (dk_at dksX1_put_8 15 rfl rfl)
theorem dX1_put_206 : decode cX1_put 206 = .ok (.aload_n 0, 1) := dk_42 (dk_at dksX1_put_8 18 rfl rfl)
theorem dX1_put_207 : decode cX1_put 207 = .ok (.dup, 1) := dk_89 (dk_at dksX1_put_8 19 rfl rfl)
theorem dX1_put_208 : decode cX1_put 208 = .ok (.getfield 130, 3) := dk_180 0 130 (dk_at dksX1_put_8 20 rfl rfl)
theorem dX1_put_211 : decode cX1_put 211 = .ok (.iload 13, 2) := dk_21 13 (dk_at dksX1_put_9 0 rfl rfl)
theorem dX1_put_213 : decode cX1_put 213 = .ok (.iadd, 1) := dk_96 (dk_at dksX1_put_9 2 rfl rfl)
theorem dX1_put_214 : decode cX1_put 214 = .ok (.putfield 130, 3) := dk_181 0 130 (dk_at dksX1_put_9 3 rfl rfl)
theorem dX1_put_217 : decode cX1_put 217 = .ok (.iload 7, 2) := dk_21 7 (dk_at dksX1_put_9 6 rfl rfl)
theorem dX1_put_219 : decode cX1_put 219 = .ok (.iload 10, 2) := dk_21 10 (dk_at dksX1_put_9 8 rfl rfl)
theorem dX1_put_221 : decode cX1_put 221 = .ok (.iadd, 1) := dk_96 (dk_at dksX1_put_9 10 rfl rfl)
theorem dX1_put_222 : decode cX1_put 222 = .ok (.istore 7, 2) := dk_54 7 (dk_at dksX1_put_9 11 rfl rfl)
theorem dX1_put_224 : decode cX1_put 224 = .ok (.goto (-221), 3) := dk_167 255 35 (dk_at dksX1_put_9 13 rfl rfl)
theorem dX1_put_227 : decode cX1_put 227 = .ok (.iload_n 3, 1) := dk_29 (dk_at dksX1_put_9 16 rfl rfl)
theorem dX1_put_228 : decode cX1_put 228 = .ok (.ireturn, 1) := dk_172 (dk_at dksX1_put_9 17 rfl rfl)
abbrev cX1_byteOf : ByteArray := prog_1_method_69_code
def yX1_byteOf : MethodName := ⟨RX1, "byteOf", "(IJI)B"⟩
def dkwX1_byteOf_1 : List UInt8 := [20, 1, 133, 21, 4, 133, 105, 97, 136, 145, 167, 0, 10, 42, 180, 0, 77, 21, 4, 51, 172]
abbrev dktX1_byteOf_1 : List UInt8 := dkwX1_byteOf_1 ++ []
def dkwX1_byteOf_0 : List UInt8 := [27, 154, 0, 15, 32, 16, 8, 21, 4, 104, 125, 136, 145, 167, 0, 29, 27, 4, 160, 0, 17, 32]
abbrev dktX1_byteOf_0 : List UInt8 := dkwX1_byteOf_0 ++ dktX1_byteOf_1
theorem dksX1_byteOf_0 : cX1_byteOf.data.toList.drop 0 = dktX1_byteOf_0 := by decide +kernel
theorem dksX1_byteOf_1 : cX1_byteOf.data.toList.drop 22 = dktX1_byteOf_1 := dk_seg dksX1_byteOf_0 22 rfl rfl
theorem dX1_byteOf_0 : decode cX1_byteOf 0 = .ok (.iload_n 1, 1) := dk_27 (dk_at dksX1_byteOf_0 0 rfl rfl)
theorem dX1_byteOf_1 : decode cX1_byteOf 1 = .ok (.ifCond .ne 15, 3) := dk_154 0 15 (dk_at dksX1_byteOf_0 1 rfl rfl)
theorem dX1_byteOf_4 : decode cX1_byteOf 4 = .ok (.lload_n 2, 1) := dk_32 (dk_at dksX1_byteOf_0 4 rfl rfl)
theorem dX1_byteOf_5 : decode cX1_byteOf 5 = .ok (.bipush 8, 2) := dk_16 8 (dk_at dksX1_byteOf_0 5 rfl rfl)
theorem dX1_byteOf_7 : decode cX1_byteOf 7 = .ok (.iload 4, 2) := dk_21 4 (dk_at dksX1_byteOf_0 7 rfl rfl)
theorem dX1_byteOf_9 : decode cX1_byteOf 9 = .ok (.imul, 1) := dk_104 (dk_at dksX1_byteOf_0 9 rfl rfl)
theorem dX1_byteOf_10 : decode cX1_byteOf 10 = .ok (.lushr, 1) := dk_125 (dk_at dksX1_byteOf_0 10 rfl rfl)
theorem dX1_byteOf_11 : decode cX1_byteOf 11 = .ok (.l2i, 1) := dk_136 (dk_at dksX1_byteOf_0 11 rfl rfl)
theorem dX1_byteOf_12 : decode cX1_byteOf 12 = .ok (.i2b, 1) := dk_145 (dk_at dksX1_byteOf_0 12 rfl rfl)
theorem dX1_byteOf_13 : decode cX1_byteOf 13 = .ok (.goto 29, 3) := dk_167 0 29 (dk_at dksX1_byteOf_0 13 rfl rfl)
theorem dX1_byteOf_16 : decode cX1_byteOf 16 = .ok (.iload_n 1, 1) := dk_27 (dk_at dksX1_byteOf_0 16 rfl rfl)
theorem dX1_byteOf_17 : decode cX1_byteOf 17 = .ok (.iconst 1, 1) := dk_4 (dk_at dksX1_byteOf_0 17 rfl rfl)
theorem dX1_byteOf_18 : decode cX1_byteOf 18 = .ok (.if_icmp .ne 17, 3) := dk_160 0 17 (dk_at dksX1_byteOf_0 18 rfl rfl)
theorem dX1_byteOf_21 : decode cX1_byteOf 21 = .ok (.lload_n 2, 1) := dk_32 (dk_at dksX1_byteOf_0 21 rfl rfl)
theorem dX1_byteOf_22 : decode cX1_byteOf 22 = .ok (.ldc2_w 389, 3) := dk_20 1 133 (dk_at dksX1_byteOf_1 0 rfl rfl)
theorem dX1_byteOf_25 : decode cX1_byteOf 25 = .ok (.iload 4, 2) := dk_21 4 (dk_at dksX1_byteOf_1 3 rfl rfl)
theorem dX1_byteOf_27 : decode cX1_byteOf 27 = .ok (.i2l, 1) := dk_133 (dk_at dksX1_byteOf_1 5 rfl rfl)
theorem dX1_byteOf_28 : decode cX1_byteOf 28 = .ok (.lmul, 1) := dk_105 (dk_at dksX1_byteOf_1 6 rfl rfl)
theorem dX1_byteOf_29 : decode cX1_byteOf 29 = .ok (.ladd, 1) := dk_97 (dk_at dksX1_byteOf_1 7 rfl rfl)
theorem dX1_byteOf_30 : decode cX1_byteOf 30 = .ok (.l2i, 1) := dk_136 (dk_at dksX1_byteOf_1 8 rfl rfl)
theorem dX1_byteOf_31 : decode cX1_byteOf 31 = .ok (.i2b, 1) := dk_145 (dk_at dksX1_byteOf_1 9 rfl rfl)
theorem dX1_byteOf_32 : decode cX1_byteOf 32 = .ok (.goto 10, 3) := dk_167 0 10 (dk_at dksX1_byteOf_1 10 rfl rfl)
theorem dX1_byteOf_35 : decode cX1_byteOf 35 = .ok (.aload_n 0, 1) := dk_42 (dk_at dksX1_byteOf_1 13 rfl rfl)
theorem dX1_byteOf_36 : decode cX1_byteOf 36 = .ok (.getfield 77, 3) := dk_180 0 77 (dk_at dksX1_byteOf_1 14 rfl rfl)
theorem dX1_byteOf_39 : decode cX1_byteOf 39 = .ok (.iload 4, 2) := dk_21 4 (dk_at dksX1_byteOf_1 17 rfl rfl)
theorem dX1_byteOf_41 : decode cX1_byteOf 41 = .ok (.baload, 1) := dk_51 (dk_at dksX1_byteOf_1 19 rfl rfl)
theorem dX1_byteOf_42 : decode cX1_byteOf 42 = .ok (.ireturn, 1) := dk_172 (dk_at dksX1_byteOf_1 20 rfl rfl)
abbrev cX1_fill : ByteArray := prog_1_method_67_code
def yX1_fill : MethodName := ⟨RX1, "fill", "(IIII)I"⟩
def dkwX1_fill_2 : List UInt8 := [180, 0, 32, 27, 46, 28, 29, 4, 21, 4, 133, 182, 1, 125, 172]
abbrev dktX1_fill_2 : List UInt8 := dkwX1_fill_2 ++ []
def dkwX1_fill_1 : List UInt8 := [184, 0, 89, 153, 0, 16, 28, 3, 17, 64, 0, 29, 100, 184, 0, 89, 154, 0, 6, 16, 253, 172, 42, 42]
abbrev dktX1_fill_1 : List UInt8 := dkwX1_fill_1 ++ dktX1_fill_2
def dkwX1_fill_0 : List UInt8 := [42, 180, 0, 28, 154, 0, 6, 16, 254, 172, 42, 27, 182, 1, 112, 153, 0, 27, 29, 4, 17, 8, 0]
abbrev dktX1_fill_0 : List UInt8 := dkwX1_fill_0 ++ dktX1_fill_1
theorem dksX1_fill_0 : cX1_fill.data.toList.drop 0 = dktX1_fill_0 := by decide +kernel
theorem dksX1_fill_1 : cX1_fill.data.toList.drop 23 = dktX1_fill_1 := dk_seg dksX1_fill_0 23 rfl rfl
theorem dksX1_fill_2 : cX1_fill.data.toList.drop 47 = dktX1_fill_2 := dk_seg dksX1_fill_1 24 rfl rfl
theorem dX1_fill_0 : decode cX1_fill 0 = .ok (.aload_n 0, 1) := dk_42 (dk_at dksX1_fill_0 0 rfl rfl)
theorem dX1_fill_1 : decode cX1_fill 1 = .ok (.getfield 28, 3) := dk_180 0 28 (dk_at dksX1_fill_0 1 rfl rfl)
theorem dX1_fill_4 : decode cX1_fill 4 = .ok (.ifCond .ne 6, 3) := dk_154 0 6 (dk_at dksX1_fill_0 4 rfl rfl)
theorem dX1_fill_7 : decode cX1_fill 7 = .ok (.bipush (-2), 2) := dk_16 254 (dk_at dksX1_fill_0 7 rfl rfl)
theorem dX1_fill_9 : decode cX1_fill 9 = .ok (.ireturn, 1) := dk_172 (dk_at dksX1_fill_0 9 rfl rfl)
theorem dX1_fill_10 : decode cX1_fill 10 = .ok (.aload_n 0, 1) := dk_42 (dk_at dksX1_fill_0 10 rfl rfl)
theorem dX1_fill_11 : decode cX1_fill 11 = .ok (.iload_n 1, 1) := dk_27 (dk_at dksX1_fill_0 11 rfl rfl)
theorem dX1_fill_12 : decode cX1_fill 12 = .ok (.invokevirtual 368, 3) := dk_182 1 112 (dk_at dksX1_fill_0 12 rfl rfl)
theorem dX1_fill_15 : decode cX1_fill 15 = .ok (.ifCond .eq 27, 3) := dk_153 0 27 (dk_at dksX1_fill_0 15 rfl rfl)
theorem dX1_fill_18 : decode cX1_fill 18 = .ok (.iload_n 3, 1) := dk_29 (dk_at dksX1_fill_0 18 rfl rfl)
theorem dX1_fill_19 : decode cX1_fill 19 = .ok (.iconst 1, 1) := dk_4 (dk_at dksX1_fill_0 19 rfl rfl)
theorem dX1_fill_20 : decode cX1_fill 20 = .ok (.sipush 2048, 3) := dk_17 8 0 (dk_at dksX1_fill_0 20 rfl rfl)
theorem dX1_fill_23 : decode cX1_fill 23 = .ok (.invokestatic 89, 3) := dk_184 0 89 (dk_at dksX1_fill_1 0 rfl rfl)
theorem dX1_fill_26 : decode cX1_fill 26 = .ok (.ifCond .eq 16, 3) := dk_153 0 16 (dk_at dksX1_fill_1 3 rfl rfl)
theorem dX1_fill_29 : decode cX1_fill 29 = .ok (.iload_n 2, 1) := dk_28 (dk_at dksX1_fill_1 6 rfl rfl)
theorem dX1_fill_30 : decode cX1_fill 30 = .ok (.iconst 0, 1) := dk_3 (dk_at dksX1_fill_1 7 rfl rfl)
theorem dX1_fill_31 : decode cX1_fill 31 = .ok (.sipush 16384, 3) := dk_17 64 0 (dk_at dksX1_fill_1 8 rfl rfl)
theorem dX1_fill_34 : decode cX1_fill 34 = .ok (.iload_n 3, 1) := dk_29 (dk_at dksX1_fill_1 11 rfl rfl)
theorem dX1_fill_35 : decode cX1_fill 35 = .ok (.isub, 1) := dk_100 (dk_at dksX1_fill_1 12 rfl rfl)
theorem dX1_fill_36 : decode cX1_fill 36 = .ok (.invokestatic 89, 3) := dk_184 0 89 (dk_at dksX1_fill_1 13 rfl rfl)
theorem dX1_fill_39 : decode cX1_fill 39 = .ok (.ifCond .ne 6, 3) := dk_154 0 6 (dk_at dksX1_fill_1 16 rfl rfl)
theorem dX1_fill_42 : decode cX1_fill 42 = .ok (.bipush (-3), 2) := dk_16 253 (dk_at dksX1_fill_1 19 rfl rfl)
theorem dX1_fill_44 : decode cX1_fill 44 = .ok (.ireturn, 1) := dk_172 (dk_at dksX1_fill_1 21 rfl rfl)
theorem dX1_fill_45 : decode cX1_fill 45 = .ok (.aload_n 0, 1) := dk_42 (dk_at dksX1_fill_1 22 rfl rfl)
theorem dX1_fill_46 : decode cX1_fill 46 = .ok (.aload_n 0, 1) := dk_42 (dk_at dksX1_fill_1 23 rfl rfl)
theorem dX1_fill_47 : decode cX1_fill 47 = .ok (.getfield 32, 3) := dk_180 0 32 (dk_at dksX1_fill_2 0 rfl rfl)
theorem dX1_fill_50 : decode cX1_fill 50 = .ok (.iload_n 1, 1) := dk_27 (dk_at dksX1_fill_2 3 rfl rfl)
theorem dX1_fill_51 : decode cX1_fill 51 = .ok (.iaload, 1) := dk_46 (dk_at dksX1_fill_2 4 rfl rfl)
theorem dX1_fill_52 : decode cX1_fill 52 = .ok (.iload_n 2, 1) := dk_28 (dk_at dksX1_fill_2 5 rfl rfl)
theorem dX1_fill_53 : decode cX1_fill 53 = .ok (.iload_n 3, 1) := dk_29 (dk_at dksX1_fill_2 6 rfl rfl)
theorem dX1_fill_54 : decode cX1_fill 54 = .ok (.iconst 1, 1) := dk_4 (dk_at dksX1_fill_2 7 rfl rfl)
theorem dX1_fill_55 : decode cX1_fill 55 = .ok (.iload 4, 2) := dk_21 4 (dk_at dksX1_fill_2 8 rfl rfl)
theorem dX1_fill_57 : decode cX1_fill 57 = .ok (.i2l, 1) := dk_133 (dk_at dksX1_fill_2 10 rfl rfl)
theorem dX1_fill_58 : decode cX1_fill 58 = .ok (.invokevirtual 381, 3) := dk_182 1 125 (dk_at dksX1_fill_2 11 rfl rfl)
theorem dX1_fill_61 : decode cX1_fill 61 = .ok (.ireturn, 1) := dk_172 (dk_at dksX1_fill_2 14 rfl rfl)
abbrev cX1_copy : ByteArray := prog_1_method_68_code
def yX1_copy : MethodName := ⟨RX1, "copy", "(IIIII)I"⟩
def dkwX1_copy_8 : List UInt8 := [21, 4, 21, 6, 5, 9, 182, 1, 125, 172]
abbrev dktX1_copy_8 : List UInt8 := dkwX1_copy_8 ++ []
def dkwX1_copy_7 : List UInt8 := [21, 7, 21, 9, 184, 1, 44, 21, 7, 21, 9, 96, 54, 7, 167, 255, 182, 42, 42, 180, 0, 32, 29, 46]
abbrev dktX1_copy_7 : List UInt8 := dkwX1_copy_7 ++ dktX1_copy_8
def dkwX1_copy_6 : List UInt8 := [180, 0, 177, 28, 21, 7, 96, 16, 64, 108, 182, 1, 100, 87, 42, 180, 0, 47, 21, 8, 42, 180, 0, 77]
abbrev dktX1_copy_6 : List UInt8 := dkwX1_copy_6 ++ dktX1_copy_7
def dkwX1_copy_5 : List UInt8 := [54, 8, 21, 6, 21, 7, 100, 16, 64, 21, 8, 100, 184, 1, 128, 54, 9, 42, 42, 180, 0, 54]
abbrev dktX1_copy_5 : List UInt8 := dkwX1_copy_5 ++ dktX1_copy_6
def dkwX1_copy_4 : List UInt8 := [21, 6, 157, 0, 5, 3, 172, 3, 54, 7, 21, 7, 21, 6, 162, 0, 73, 28, 21, 7, 96, 16, 64, 112]
abbrev dktX1_copy_4 : List UInt8 := dkwX1_copy_4 ++ dktX1_copy_5
def dkwX1_copy_3 : List UInt8 := [180, 0, 54, 182, 0, 214, 87, 21, 5, 42, 180, 0, 54, 180, 0, 188, 28, 100, 184, 1, 128, 54, 6]
abbrev dktX1_copy_3 : List UInt8 := dkwX1_copy_3 ++ dktX1_copy_4
def dkwX1_copy_2 : List UInt8 := [17, 64, 0, 21, 5, 100, 184, 0, 89, 154, 0, 6, 16, 253, 172, 42, 42, 180, 0, 32, 27, 46, 42]
abbrev dktX1_copy_2 : List UInt8 := dkwX1_copy_2 ++ dktX1_copy_3
def dkwX1_copy_1 : List UInt8 := [153, 0, 34, 21, 5, 4, 17, 8, 0, 184, 0, 89, 153, 0, 22, 28, 155, 0, 18, 21, 4, 3]
abbrev dktX1_copy_1 : List UInt8 := dkwX1_copy_1 ++ dktX1_copy_2
def dkwX1_copy_0 : List UInt8 := [42, 180, 0, 28, 154, 0, 6, 16, 254, 172, 42, 27, 182, 1, 112, 153, 0, 42, 42, 29, 182, 1, 112]
abbrev dktX1_copy_0 : List UInt8 := dkwX1_copy_0 ++ dktX1_copy_1
theorem dksX1_copy_0 : cX1_copy.data.toList.drop 0 = dktX1_copy_0 := by decide +kernel
theorem dksX1_copy_1 : cX1_copy.data.toList.drop 23 = dktX1_copy_1 := dk_seg dksX1_copy_0 23 rfl rfl
theorem dksX1_copy_2 : cX1_copy.data.toList.drop 45 = dktX1_copy_2 := dk_seg dksX1_copy_1 22 rfl rfl
theorem dksX1_copy_3 : cX1_copy.data.toList.drop 68 = dktX1_copy_3 := dk_seg dksX1_copy_2 23 rfl rfl
theorem dksX1_copy_4 : cX1_copy.data.toList.drop 91 = dktX1_copy_4 := dk_seg dksX1_copy_3 23 rfl rfl
theorem dksX1_copy_5 : cX1_copy.data.toList.drop 115 = dktX1_copy_5 := dk_seg dksX1_copy_4 24 rfl rfl
theorem dksX1_copy_6 : cX1_copy.data.toList.drop 137 = dktX1_copy_6 := dk_seg dksX1_copy_5 22 rfl rfl
theorem dksX1_copy_7 : cX1_copy.data.toList.drop 161 = dktX1_copy_7 := dk_seg dksX1_copy_6 24 rfl rfl
theorem dksX1_copy_8 : cX1_copy.data.toList.drop 185 = dktX1_copy_8 := dk_seg dksX1_copy_7 24 rfl rfl
theorem dX1_copy_0 : decode cX1_copy 0 = .ok (.aload_n 0, 1) := dk_42 (dk_at dksX1_copy_0 0 rfl rfl)
theorem dX1_copy_1 : decode cX1_copy 1 = .ok (.getfield 28, 3) := dk_180 0 28 (dk_at dksX1_copy_0 1 rfl rfl)
theorem dX1_copy_4 : decode cX1_copy 4 = .ok (.ifCond .ne 6, 3) := dk_154 0 6 (dk_at dksX1_copy_0 4 rfl rfl)
theorem dX1_copy_7 : decode cX1_copy 7 = .ok (.bipush (-2), 2) := dk_16 254 (dk_at dksX1_copy_0 7 rfl rfl)
theorem dX1_copy_9 : decode cX1_copy 9 = .ok (.ireturn, 1) := dk_172 (dk_at dksX1_copy_0 9 rfl rfl)
theorem dX1_copy_10 : decode cX1_copy 10 = .ok (.aload_n 0, 1) := dk_42 (dk_at dksX1_copy_0 10 rfl rfl)
theorem dX1_copy_11 : decode cX1_copy 11 = .ok (.iload_n 1, 1) := dk_27 (dk_at dksX1_copy_0 11 rfl rfl)
theorem dX1_copy_12 : decode cX1_copy 12 = .ok (.invokevirtual 368, 3) := dk_182 1 112 (dk_at dksX1_copy_0 12 rfl rfl)
theorem dX1_copy_15 : decode cX1_copy 15 = .ok (.ifCond .eq 42, 3) := dk_153 0 42 (dk_at dksX1_copy_0 15 rfl rfl)
theorem dX1_copy_18 : decode cX1_copy 18 = .ok (.aload_n 0, 1) := dk_42 (dk_at dksX1_copy_0 18 rfl rfl)
theorem dX1_copy_19 : decode cX1_copy 19 = .ok (.iload_n 3, 1) := dk_29 (dk_at dksX1_copy_0 19 rfl rfl)
theorem dX1_copy_20 : decode cX1_copy 20 = .ok (.invokevirtual 368, 3) := dk_182 1 112 (dk_at dksX1_copy_0 20 rfl rfl)
theorem dX1_copy_23 : decode cX1_copy 23 = .ok (.ifCond .eq 34, 3) := dk_153 0 34 (dk_at dksX1_copy_1 0 rfl rfl)
theorem dX1_copy_26 : decode cX1_copy 26 = .ok (.iload 5, 2) := dk_21 5 (dk_at dksX1_copy_1 3 rfl rfl)
theorem dX1_copy_28 : decode cX1_copy 28 = .ok (.iconst 1, 1) := dk_4 (dk_at dksX1_copy_1 5 rfl rfl)
theorem dX1_copy_29 : decode cX1_copy 29 = .ok (.sipush 2048, 3) := dk_17 8 0 (dk_at dksX1_copy_1 6 rfl rfl)
theorem dX1_copy_32 : decode cX1_copy 32 = .ok (.invokestatic 89, 3) := dk_184 0 89 (dk_at dksX1_copy_1 9 rfl rfl)
theorem dX1_copy_35 : decode cX1_copy 35 = .ok (.ifCond .eq 22, 3) := dk_153 0 22 (dk_at dksX1_copy_1 12 rfl rfl)
theorem dX1_copy_38 : decode cX1_copy 38 = .ok (.iload_n 2, 1) := dk_28 (dk_at dksX1_copy_1 15 rfl rfl)
theorem dX1_copy_39 : decode cX1_copy 39 = .ok (.ifCond .lt 18, 3) := dk_155 0 18 (dk_at dksX1_copy_1 16 rfl rfl)
theorem dX1_copy_42 : decode cX1_copy 42 = .ok (.iload 4, 2) := dk_21 4 (dk_at dksX1_copy_1 19 rfl rfl)
theorem dX1_copy_44 : decode cX1_copy 44 = .ok (.iconst 0, 1) := dk_3 (dk_at dksX1_copy_1 21 rfl rfl)
theorem dX1_copy_45 : decode cX1_copy 45 = .ok (.sipush 16384, 3) := dk_17 64 0 (dk_at dksX1_copy_2 0 rfl rfl)
theorem dX1_copy_48 : decode cX1_copy 48 = .ok (.iload 5, 2) := dk_21 5 (dk_at dksX1_copy_2 3 rfl rfl)
theorem dX1_copy_50 : decode cX1_copy 50 = .ok (.isub, 1) := dk_100 (dk_at dksX1_copy_2 5 rfl rfl)
theorem dX1_copy_51 : decode cX1_copy 51 = .ok (.invokestatic 89, 3) := dk_184 0 89 (dk_at dksX1_copy_2 6 rfl rfl)
theorem dX1_copy_54 : decode cX1_copy 54 = .ok (.ifCond .ne 6, 3) := dk_154 0 6 (dk_at dksX1_copy_2 9 rfl rfl)
theorem dX1_copy_57 : decode cX1_copy 57 = .ok (.bipush (-3), 2) := dk_16 253 (dk_at dksX1_copy_2 12 rfl rfl)
theorem dX1_copy_59 : decode cX1_copy 59 = .ok (.ireturn, 1) := dk_172 (dk_at dksX1_copy_2 14 rfl rfl)
theorem dX1_copy_60 : decode cX1_copy 60 = .ok (.aload_n 0, 1) := dk_42 (dk_at dksX1_copy_2 15 rfl rfl)
theorem dX1_copy_61 : decode cX1_copy 61 = .ok (.aload_n 0, 1) := dk_42 (dk_at dksX1_copy_2 16 rfl rfl)
theorem dX1_copy_62 : decode cX1_copy 62 = .ok (.getfield 32, 3) := dk_180 0 32 (dk_at dksX1_copy_2 17 rfl rfl)
theorem dX1_copy_65 : decode cX1_copy 65 = .ok (.iload_n 1, 1) := dk_27 (dk_at dksX1_copy_2 20 rfl rfl)
theorem dX1_copy_66 : decode cX1_copy 66 = .ok (.iaload, 1) := dk_46 (dk_at dksX1_copy_2 21 rfl rfl)
theorem dX1_copy_67 : decode cX1_copy 67 = .ok (.aload_n 0, 1) := dk_42 (dk_at dksX1_copy_2 22 rfl rfl)
theorem dX1_copy_68 : decode cX1_copy 68 = .ok (.getfield 54, 3) := dk_180 0 54 (dk_at dksX1_copy_3 0 rfl rfl)
theorem dX1_copy_71 : decode cX1_copy 71 = .ok (.invokevirtual 214, 3) := dk_182 0 214 (dk_at dksX1_copy_3 3 rfl rfl)
theorem dX1_copy_74 : decode cX1_copy 74 = .ok (.pop, 1) := dk_87 (dk_at dksX1_copy_3 6 rfl rfl)
theorem dX1_copy_75 : decode cX1_copy 75 = .ok (.iload 5, 2) := dk_21 5 (dk_at dksX1_copy_3 7 rfl rfl)
theorem dX1_copy_77 : decode cX1_copy 77 = .ok (.aload_n 0, 1) := dk_42 (dk_at dksX1_copy_3 9 rfl rfl)
theorem dX1_copy_78 : decode cX1_copy 78 = .ok (.getfield 54, 3) := dk_180 0 54 (dk_at dksX1_copy_3 10 rfl rfl)
theorem dX1_copy_81 : decode cX1_copy 81 = .ok (.getfield 188, 3) := dk_180 0 188 (dk_at dksX1_copy_3 13 rfl rfl)
theorem dX1_copy_84 : decode cX1_copy 84 = .ok (.iload_n 2, 1) := dk_28 (dk_at dksX1_copy_3 16 rfl rfl)
theorem dX1_copy_85 : decode cX1_copy 85 = .ok (.isub, 1) := dk_100 (dk_at dksX1_copy_3 17 rfl rfl)
theorem dX1_copy_86 : decode cX1_copy 86 = .ok (.invokestatic 384, 3) := dk_184 1 128 (dk_at dksX1_copy_3 18 rfl rfl)
theorem dX1_copy_89 : decode cX1_copy 89 = .ok (.istore 6, 2) := dk_54 6 (dk_at dksX1_copy_3 21 rfl rfl)
theorem dX1_copy_91 : decode cX1_copy 91 = .ok (.iload 6, 2) := dk_21 6 (dk_at dksX1_copy_4 0 rfl rfl)
theorem dX1_copy_93 : decode cX1_copy 93 = .ok (.ifCond .gt 5, 3) := dk_157 0 5 (dk_at dksX1_copy_4 2 rfl rfl)
theorem dX1_copy_96 : decode cX1_copy 96 = .ok (.iconst 0, 1) := dk_3 (dk_at dksX1_copy_4 5 rfl rfl)
theorem dX1_copy_97 : decode cX1_copy 97 = .ok (.ireturn, 1) := dk_172 (dk_at dksX1_copy_4 6 rfl rfl)
theorem dX1_copy_98 : decode cX1_copy 98 = .ok (.iconst 0, 1) := dk_3 (dk_at dksX1_copy_4 7 rfl rfl)
theorem dX1_copy_99 : decode cX1_copy 99 = .ok (.istore 7, 2) := dk_54 7 (dk_at dksX1_copy_4 8 rfl rfl)
theorem dX1_copy_101 : decode cX1_copy 101 = .ok (.iload 7, 2) := dk_21 7 (dk_at dksX1_copy_4 10 rfl rfl)
theorem dX1_copy_103 : decode cX1_copy 103 = .ok (.iload 6, 2) := dk_21 6 (dk_at dksX1_copy_4 12 rfl rfl)
theorem dX1_copy_105 : decode cX1_copy 105 = .ok (.if_icmp .ge 73, 3) := dk_162 0 73 (dk_at dksX1_copy_4 14 rfl rfl)
theorem dX1_copy_108 : decode cX1_copy 108 = .ok (.iload_n 2, 1) := dk_28 (dk_at dksX1_copy_4 17 rfl rfl)
theorem dX1_copy_109 : decode cX1_copy 109 = .ok (.iload 7, 2) := dk_21 7 (dk_at dksX1_copy_4 18 rfl rfl)
theorem dX1_copy_111 : decode cX1_copy 111 = .ok (.iadd, 1) := dk_96 (dk_at dksX1_copy_4 20 rfl rfl)
theorem dX1_copy_112 : decode cX1_copy 112 = .ok (.bipush 64, 2) := dk_16 64 (dk_at dksX1_copy_4 21 rfl rfl)
theorem dX1_copy_114 : decode cX1_copy 114 = .ok (.irem, 1) := dk_112 (dk_at dksX1_copy_4 23 rfl rfl)
theorem dX1_copy_115 : decode cX1_copy 115 = .ok (.istore 8, 2) := dk_54 8 (dk_at dksX1_copy_5 0 rfl rfl)
theorem dX1_copy_117 : decode cX1_copy 117 = .ok (.iload 6, 2) := dk_21 6 (dk_at dksX1_copy_5 2 rfl rfl)
theorem dX1_copy_119 : decode cX1_copy 119 = .ok (.iload 7, 2) := dk_21 7 (dk_at dksX1_copy_5 4 rfl rfl)
theorem dX1_copy_121 : decode cX1_copy 121 = .ok (.isub, 1) := dk_100 (dk_at dksX1_copy_5 6 rfl rfl)
theorem dX1_copy_122 : decode cX1_copy 122 = .ok (.bipush 64, 2) := dk_16 64 (dk_at dksX1_copy_5 7 rfl rfl)
theorem dX1_copy_124 : decode cX1_copy 124 = .ok (.iload 8, 2) := dk_21 8 (dk_at dksX1_copy_5 9 rfl rfl)
theorem dX1_copy_126 : decode cX1_copy 126 = .ok (.isub, 1) := dk_100 (dk_at dksX1_copy_5 11 rfl rfl)
theorem dX1_copy_127 : decode cX1_copy 127 = .ok (.invokestatic 384, 3) := dk_184 1 128 (dk_at dksX1_copy_5 12 rfl rfl)
theorem dX1_copy_130 : decode cX1_copy 130 = .ok (.istore 9, 2) := dk_54 9 (dk_at dksX1_copy_5 15 rfl rfl)
theorem dX1_copy_132 : decode cX1_copy 132 = .ok (.aload_n 0, 1) := dk_42 (dk_at dksX1_copy_5 17 rfl rfl)
theorem dX1_copy_133 : decode cX1_copy 133 = .ok (.aload_n 0, 1) := dk_42 (dk_at dksX1_copy_5 18 rfl rfl)
theorem dX1_copy_134 : decode cX1_copy 134 = .ok (.getfield 54, 3) := dk_180 0 54 (dk_at dksX1_copy_5 19 rfl rfl)
theorem dX1_copy_137 : decode cX1_copy 137 = .ok (.getfield 177, 3) := dk_180 0 177 (dk_at dksX1_copy_6 0 rfl rfl)
theorem dX1_copy_140 : decode cX1_copy 140 = .ok (.iload_n 2, 1) := dk_28 (dk_at dksX1_copy_6 3 rfl rfl)
theorem dX1_copy_141 : decode cX1_copy 141 = .ok (.iload 7, 2) := dk_21 7 (dk_at dksX1_copy_6 4 rfl rfl)
theorem dX1_copy_143 : decode cX1_copy 143 = .ok (.iadd, 1) := dk_96 (dk_at dksX1_copy_6 6 rfl rfl)
theorem dX1_copy_144 : decode cX1_copy 144 = .ok (.bipush 64, 2) := dk_16 64 (dk_at dksX1_copy_6 7 rfl rfl)
theorem dX1_copy_146 : decode cX1_copy 146 = .ok (.idiv, 1) := dk_108 (dk_at dksX1_copy_6 9 rfl rfl)
theorem dX1_copy_147 : decode cX1_copy 147 = .ok (.invokevirtual 356, 3) := dk_182 1 100 (dk_at dksX1_copy_6 10 rfl rfl)
theorem dX1_copy_150 : decode cX1_copy 150 = .ok (.pop, 1) := dk_87 (dk_at dksX1_copy_6 13 rfl rfl)
theorem dX1_copy_151 : decode cX1_copy 151 = .ok (.aload_n 0, 1) := dk_42 (dk_at dksX1_copy_6 14 rfl rfl)
theorem dX1_copy_152 : decode cX1_copy 152 = .ok (.getfield 47, 3) := dk_180 0 47 (dk_at dksX1_copy_6 15 rfl rfl)
theorem dX1_copy_155 : decode cX1_copy 155 = .ok (.iload 8, 2) := dk_21 8 (dk_at dksX1_copy_6 18 rfl rfl)
theorem dX1_copy_157 : decode cX1_copy 157 = .ok (.aload_n 0, 1) := dk_42 (dk_at dksX1_copy_6 20 rfl rfl)
theorem dX1_copy_158 : decode cX1_copy 158 = .ok (.getfield 77, 3) := dk_180 0 77 (dk_at dksX1_copy_6 21 rfl rfl)
theorem dX1_copy_161 : decode cX1_copy 161 = .ok (.iload 7, 2) := dk_21 7 (dk_at dksX1_copy_7 0 rfl rfl)
theorem dX1_copy_163 : decode cX1_copy 163 = .ok (.iload 9, 2) := dk_21 9 (dk_at dksX1_copy_7 2 rfl rfl)
theorem dX1_copy_165 : decode cX1_copy 165 = .ok (.invokestatic 300, 3) := dk_184 1 44 (dk_at dksX1_copy_7 4 rfl rfl)
theorem dX1_copy_168 : decode cX1_copy 168 = .ok (.iload 7, 2) := dk_21 7 (dk_at dksX1_copy_7 7 rfl rfl)
theorem dX1_copy_170 : decode cX1_copy 170 = .ok (.iload 9, 2) := dk_21 9 (dk_at dksX1_copy_7 9 rfl rfl)
theorem dX1_copy_172 : decode cX1_copy 172 = .ok (.iadd, 1) := dk_96 (dk_at dksX1_copy_7 11 rfl rfl)
theorem dX1_copy_173 : decode cX1_copy 173 = .ok (.istore 7, 2) := dk_54 7 (dk_at dksX1_copy_7 12 rfl rfl)
theorem dX1_copy_175 : decode cX1_copy 175 = .ok (.goto (-74), 3) := dk_167 255 182 (dk_at dksX1_copy_7 14 rfl rfl)
theorem dX1_copy_178 : decode cX1_copy 178 = .ok (.aload_n 0, 1) := dk_42 (dk_at dksX1_copy_7 17 rfl rfl)
theorem dX1_copy_179 : decode cX1_copy 179 = .ok (.aload_n 0, 1) := dk_42 (dk_at dksX1_copy_7 18 rfl rfl)
theorem dX1_copy_180 : decode cX1_copy 180 = .ok (.getfield 32, 3) := dk_180 0 32 (dk_at dksX1_copy_7 19 rfl rfl)
theorem dX1_copy_183 : decode cX1_copy 183 = .ok (.iload_n 3, 1) := dk_29 (dk_at dksX1_copy_7 22 rfl rfl)
theorem dX1_copy_184 : decode cX1_copy 184 = .ok (.iaload, 1) := dk_46 (dk_at dksX1_copy_7 23 rfl rfl)
theorem dX1_copy_185 : decode cX1_copy 185 = .ok (.iload 4, 2) := dk_21 4 (dk_at dksX1_copy_8 0 rfl rfl)
theorem dX1_copy_187 : decode cX1_copy 187 = .ok (.iload 6, 2) := dk_21 6 (dk_at dksX1_copy_8 2 rfl rfl)
theorem dX1_copy_189 : decode cX1_copy 189 = .ok (.iconst 2, 1) := dk_5 (dk_at dksX1_copy_8 4 rfl rfl)
theorem dX1_copy_190 : decode cX1_copy 190 = .ok (.lconst 0, 1) := dk_9 (dk_at dksX1_copy_8 5 rfl rfl)
theorem dX1_copy_191 : decode cX1_copy 191 = .ok (.invokevirtual 381, 3) := dk_182 1 125 (dk_at dksX1_copy_8 6 rfl rfl)
theorem dX1_copy_194 : decode cX1_copy 194 = .ok (.ireturn, 1) := dk_172 (dk_at dksX1_copy_8 9 rfl rfl)
abbrev cX1_resize : ByteArray := prog_1_method_71_code
def yX1_resize : MethodName := ⟨RX1, "resize", "(II)I"⟩
def dkwX1_resize_10 : List UInt8 := [182, 1, 7, 21, 5, 100, 96, 181, 0, 130, 21, 4, 172]
abbrev dktX1_resize_10 : List UInt8 := dkwX1_resize_10 ++ []
def dkwX1_resize_9 : List UInt8 := [182, 1, 50, 42, 180, 0, 40, 9, 4, 182, 0, 227, 42, 182, 1, 54, 42, 89, 180, 0, 130, 42, 29]
abbrev dktX1_resize_9 : List UInt8 := dkwX1_resize_9 ++ dktX1_resize_10
def dkwX1_resize_8 : List UInt8 := [4, 167, 0, 4, 3, 182, 0, 227, 21, 7, 153, 0, 25, 42, 29, 28, 16, 64, 108, 28, 16, 64, 112]
abbrev dktX1_resize_8 : List UInt8 := dkwX1_resize_8 ++ dktX1_resize_9
def dkwX1_resize_7 : List UInt8 := [182, 0, 220, 3, 29, 182, 0, 224, 7, 28, 182, 0, 224, 87, 42, 180, 0, 40, 9, 21, 7, 154, 0, 7]
abbrev dktX1_resize_7 : List UInt8 := dkwX1_resize_7 ++ dktX1_resize_8
def dkwX1_resize_6 : List UInt8 := [164, 0, 14, 28, 16, 64, 112, 158, 0, 7, 4, 167, 0, 4, 3, 54, 7, 42, 180, 0, 40, 7, 16, 40]
abbrev dktX1_resize_6 : List UInt8 := dkwX1_resize_6 ++ dktX1_resize_7
def dkwX1_resize_5 : List UInt8 := [154, 0, 7, 3, 167, 0, 12, 42, 29, 28, 16, 64, 108, 182, 1, 100, 54, 6, 21, 6, 28, 16, 64, 112]
abbrev dktX1_resize_5 : List UInt8 := dkwX1_resize_5 ++ dktX1_resize_6
def dkwX1_resize_4 : List UInt8 := [21, 4, 164, 0, 7, 4, 167, 0, 4, 3, 182, 1, 10, 28, 21, 4, 162, 0, 114, 28, 16, 64, 112]
abbrev dktX1_resize_4 : List UInt8 := dkwX1_resize_4 ++ dktX1_resize_5
def dkwX1_resize_3 : List UInt8 := [182, 1, 7, 54, 5, 42, 180, 0, 54, 28, 181, 0, 188, 42, 182, 1, 38, 42, 42, 180, 0, 54, 28]
abbrev dktX1_resize_3 : List UInt8 := dkwX1_resize_3 ++ dktX1_resize_4
def dkwX1_resize_2 : List UInt8 := [182, 0, 214, 87, 42, 180, 0, 54, 180, 0, 188, 54, 4, 28, 21, 4, 160, 0, 6, 21, 4, 172, 42, 29]
abbrev dktX1_resize_2 : List UInt8 := dkwX1_resize_2 ++ dktX1_resize_3
def dkwX1_resize_1 : List UInt8 := [184, 0, 89, 154, 0, 6, 16, 253, 172, 42, 180, 0, 32, 27, 46, 62, 42, 29, 42, 180, 0, 54]
abbrev dktX1_resize_1 : List UInt8 := dkwX1_resize_1 ++ dktX1_resize_2
def dkwX1_resize_0 : List UInt8 := [42, 180, 0, 28, 154, 0, 6, 16, 254, 172, 42, 27, 182, 1, 112, 153, 0, 14, 28, 3, 17, 64, 0]
abbrev dktX1_resize_0 : List UInt8 := dkwX1_resize_0 ++ dktX1_resize_1
theorem dksX1_resize_0 : cX1_resize.data.toList.drop 0 = dktX1_resize_0 := by decide +kernel
theorem dksX1_resize_1 : cX1_resize.data.toList.drop 23 = dktX1_resize_1 := dk_seg dksX1_resize_0 23 rfl rfl
theorem dksX1_resize_2 : cX1_resize.data.toList.drop 45 = dktX1_resize_2 := dk_seg dksX1_resize_1 22 rfl rfl
theorem dksX1_resize_3 : cX1_resize.data.toList.drop 69 = dktX1_resize_3 := dk_seg dksX1_resize_2 24 rfl rfl
theorem dksX1_resize_4 : cX1_resize.data.toList.drop 92 = dktX1_resize_4 := dk_seg dksX1_resize_3 23 rfl rfl
theorem dksX1_resize_5 : cX1_resize.data.toList.drop 115 = dktX1_resize_5 := dk_seg dksX1_resize_4 23 rfl rfl
theorem dksX1_resize_6 : cX1_resize.data.toList.drop 139 = dktX1_resize_6 := dk_seg dksX1_resize_5 24 rfl rfl
theorem dksX1_resize_7 : cX1_resize.data.toList.drop 163 = dktX1_resize_7 := dk_seg dksX1_resize_6 24 rfl rfl
theorem dksX1_resize_8 : cX1_resize.data.toList.drop 187 = dktX1_resize_8 := dk_seg dksX1_resize_7 24 rfl rfl
theorem dksX1_resize_9 : cX1_resize.data.toList.drop 210 = dktX1_resize_9 := dk_seg dksX1_resize_8 23 rfl rfl
theorem dksX1_resize_10 : cX1_resize.data.toList.drop 233 = dktX1_resize_10 := dk_seg dksX1_resize_9 23 rfl rfl
theorem dX1_resize_0 : decode cX1_resize 0 = .ok (.aload_n 0, 1) := dk_42 (dk_at dksX1_resize_0 0 rfl rfl)
theorem dX1_resize_1 : decode cX1_resize 1 = .ok (.getfield 28, 3) := dk_180 0 28 (dk_at dksX1_resize_0 1 rfl rfl)
theorem dX1_resize_4 : decode cX1_resize 4 = .ok (.ifCond .ne 6, 3) := dk_154 0 6 (dk_at dksX1_resize_0 4 rfl rfl)
theorem dX1_resize_7 : decode cX1_resize 7 = .ok (.bipush (-2), 2) := dk_16 254 (dk_at dksX1_resize_0 7 rfl rfl)
theorem dX1_resize_9 : decode cX1_resize 9 = .ok (.ireturn, 1) := dk_172 (dk_at dksX1_resize_0 9 rfl rfl)
theorem dX1_resize_10 : decode cX1_resize 10 = .ok (.aload_n 0, 1) := dk_42 (dk_at dksX1_resize_0 10 rfl rfl)
theorem dX1_resize_11 : decode cX1_resize 11 = .ok (.iload_n 1, 1) := dk_27 (dk_at dksX1_resize_0 11 rfl rfl)
theorem dX1_resize_12 : decode cX1_resize 12 = .ok (.invokevirtual 368, 3) := dk_182 1 112 (dk_at dksX1_resize_0 12 rfl rfl)
theorem dX1_resize_15 : decode cX1_resize 15 = .ok (.ifCond .eq 14, 3) := dk_153 0 14 (dk_at dksX1_resize_0 15 rfl rfl)
theorem dX1_resize_18 : decode cX1_resize 18 = .ok (.iload_n 2, 1) := dk_28 (dk_at dksX1_resize_0 18 rfl rfl)
theorem dX1_resize_19 : decode cX1_resize 19 = .ok (.iconst 0, 1) := dk_3 (dk_at dksX1_resize_0 19 rfl rfl)
theorem dX1_resize_20 : decode cX1_resize 20 = .ok (.sipush 16384, 3) := dk_17 64 0 (dk_at dksX1_resize_0 20 rfl rfl)
theorem dX1_resize_23 : decode cX1_resize 23 = .ok (.invokestatic 89, 3) := dk_184 0 89 (dk_at dksX1_resize_1 0 rfl rfl)
theorem dX1_resize_26 : decode cX1_resize 26 = .ok (.ifCond .ne 6, 3) := dk_154 0 6 (dk_at dksX1_resize_1 3 rfl rfl)
theorem dX1_resize_29 : decode cX1_resize 29 = .ok (.bipush (-3), 2) := dk_16 253 (dk_at dksX1_resize_1 6 rfl rfl)
theorem dX1_resize_31 : decode cX1_resize 31 = .ok (.ireturn, 1) := dk_172 (dk_at dksX1_resize_1 8 rfl rfl)
theorem dX1_resize_32 : decode cX1_resize 32 = .ok (.aload_n 0, 1) := dk_42 (dk_at dksX1_resize_1 9 rfl rfl)
theorem dX1_resize_33 : decode cX1_resize 33 = .ok (.getfield 32, 3) := dk_180 0 32 (dk_at dksX1_resize_1 10 rfl rfl)
theorem dX1_resize_36 : decode cX1_resize 36 = .ok (.iload_n 1, 1) := dk_27 (dk_at dksX1_resize_1 13 rfl rfl)
theorem dX1_resize_37 : decode cX1_resize 37 = .ok (.iaload, 1) := dk_46 (dk_at dksX1_resize_1 14 rfl rfl)
theorem dX1_resize_38 : decode cX1_resize 38 = .ok (.istore_n 3, 1) := dk_62 (dk_at dksX1_resize_1 15 rfl rfl)
theorem dX1_resize_39 : decode cX1_resize 39 = .ok (.aload_n 0, 1) := dk_42 (dk_at dksX1_resize_1 16 rfl rfl)
theorem dX1_resize_40 : decode cX1_resize 40 = .ok (.iload_n 3, 1) := dk_29 (dk_at dksX1_resize_1 17 rfl rfl)
theorem dX1_resize_41 : decode cX1_resize 41 = .ok (.aload_n 0, 1) := dk_42 (dk_at dksX1_resize_1 18 rfl rfl)
theorem dX1_resize_42 : decode cX1_resize 42 = .ok (.getfield 54, 3) := dk_180 0 54 (dk_at dksX1_resize_1 19 rfl rfl)
theorem dX1_resize_45 : decode cX1_resize 45 = .ok (.invokevirtual 214, 3) := dk_182 0 214 (dk_at dksX1_resize_2 0 rfl rfl)
theorem dX1_resize_48 : decode cX1_resize 48 = .ok (.pop, 1) := dk_87 (dk_at dksX1_resize_2 3 rfl rfl)
theorem dX1_resize_49 : decode cX1_resize 49 = .ok (.aload_n 0, 1) := dk_42 (dk_at dksX1_resize_2 4 rfl rfl)
theorem dX1_resize_50 : decode cX1_resize 50 = .ok (.getfield 54, 3) := dk_180 0 54 (dk_at dksX1_resize_2 5 rfl rfl)
theorem dX1_resize_53 : decode cX1_resize 53 = .ok (.getfield 188, 3) := dk_180 0 188 (dk_at dksX1_resize_2 8 rfl rfl)
theorem dX1_resize_56 : decode cX1_resize 56 = .ok (.istore 4, 2) := dk_54 4 (dk_at dksX1_resize_2 11 rfl rfl)
theorem dX1_resize_58 : decode cX1_resize 58 = .ok (.iload_n 2, 1) := dk_28 (dk_at dksX1_resize_2 13 rfl rfl)
theorem dX1_resize_59 : decode cX1_resize 59 = .ok (.iload 4, 2) := dk_21 4 (dk_at dksX1_resize_2 14 rfl rfl)
theorem dX1_resize_61 : decode cX1_resize 61 = .ok (.if_icmp .ne 6, 3) := dk_160 0 6 (dk_at dksX1_resize_2 16 rfl rfl)
theorem dX1_resize_64 : decode cX1_resize 64 = .ok (.iload 4, 2) := dk_21 4 (dk_at dksX1_resize_2 19 rfl rfl)
theorem dX1_resize_66 : decode cX1_resize 66 = .ok (.ireturn, 1) := dk_172 (dk_at dksX1_resize_2 21 rfl rfl)
theorem dX1_resize_67 : decode cX1_resize 67 = .ok (.aload_n 0, 1) := dk_42 (dk_at dksX1_resize_2 22 rfl rfl)
theorem dX1_resize_68 : decode cX1_resize 68 = .ok (.iload_n 3, 1) := dk_29 (dk_at dksX1_resize_2 23 rfl rfl)
theorem dX1_resize_69 : decode cX1_resize 69 = .ok (.invokevirtual 263, 3) := dk_182 1 7 (dk_at dksX1_resize_3 0 rfl rfl)
theorem dX1_resize_72 : decode cX1_resize 72 = .ok (.istore 5, 2) := dk_54 5 (dk_at dksX1_resize_3 3 rfl rfl)
theorem dX1_resize_74 : decode cX1_resize 74 = .ok (.aload_n 0, 1) := dk_42 (dk_at dksX1_resize_3 5 rfl rfl)
theorem dX1_resize_75 : decode cX1_resize 75 = .ok (.getfield 54, 3) := dk_180 0 54 (dk_at dksX1_resize_3 6 rfl rfl)
theorem dX1_resize_78 : decode cX1_resize 78 = .ok (.iload_n 2, 1) := dk_28 (dk_at dksX1_resize_3 9 rfl rfl)
theorem dX1_resize_79 : decode cX1_resize 79 = .ok (.putfield 188, 3) := dk_181 0 188 (dk_at dksX1_resize_3 10 rfl rfl)
theorem dX1_resize_82 : decode cX1_resize 82 = .ok (.aload_n 0, 1) := dk_42 (dk_at dksX1_resize_3 13 rfl rfl)
theorem dX1_resize_83 : decode cX1_resize 83 = .ok (.invokevirtual 294, 3) := dk_182 1 38 (dk_at dksX1_resize_3 14 rfl rfl)
theorem dX1_resize_86 : decode cX1_resize 86 = .ok (.aload_n 0, 1) := dk_42 (dk_at dksX1_resize_3 17 rfl rfl)
theorem dX1_resize_87 : decode cX1_resize 87 = .ok (.aload_n 0, 1) := dk_42 (dk_at dksX1_resize_3 18 rfl rfl)
theorem dX1_resize_88 : decode cX1_resize 88 = .ok (.getfield 54, 3) := dk_180 0 54 (dk_at dksX1_resize_3 19 rfl rfl)
theorem dX1_resize_91 : decode cX1_resize 91 = .ok (.iload_n 2, 1) := dk_28 (dk_at dksX1_resize_3 22 rfl rfl)
theorem dX1_resize_92 : decode cX1_resize 92 = .ok (.iload 4, 2) := dk_21 4 (dk_at dksX1_resize_4 0 rfl rfl)
theorem dX1_resize_94 : decode cX1_resize 94 = .ok (.if_icmp .le 7, 3) := dk_164 0 7 (dk_at dksX1_resize_4 2 rfl rfl)
theorem dX1_resize_97 : decode cX1_resize 97 = .ok (.iconst 1, 1) := dk_4 (dk_at dksX1_resize_4 5 rfl rfl)
theorem dX1_resize_98 : decode cX1_resize 98 = .ok (.goto 4, 3) := dk_167 0 4 (dk_at dksX1_resize_4 6 rfl rfl)
theorem dX1_resize_101 : decode cX1_resize 101 = .ok (.iconst 0, 1) := dk_3 (dk_at dksX1_resize_4 9 rfl rfl)
theorem dX1_resize_102 : decode cX1_resize 102 = .ok (.invokevirtual 266, 3) := dk_182 1 10 (dk_at dksX1_resize_4 10 rfl rfl)
theorem dX1_resize_105 : decode cX1_resize 105 = .ok (.iload_n 2, 1) := dk_28 (dk_at dksX1_resize_4 13 rfl rfl)
theorem dX1_resize_106 : decode cX1_resize 106 = .ok (.iload 4, 2) := dk_21 4 (dk_at dksX1_resize_4 14 rfl rfl)
theorem dX1_resize_108 : decode cX1_resize 108 = .ok (.if_icmp .ge 114, 3) := dk_162 0 114 (dk_at dksX1_resize_4 16 rfl rfl)
theorem dX1_resize_111 : decode cX1_resize 111 = .ok (.iload_n 2, 1) := dk_28 (dk_at dksX1_resize_4 19 rfl rfl)
theorem dX1_resize_112 : decode cX1_resize 112 = .ok (.bipush 64, 2) := dk_16 64 (dk_at dksX1_resize_4 20 rfl rfl)
theorem dX1_resize_114 : decode cX1_resize 114 = .ok (.irem, 1) := dk_112 (dk_at dksX1_resize_4 22 rfl rfl)
theorem dX1_resize_115 : decode cX1_resize 115 = .ok (.ifCond .ne 7, 3) := dk_154 0 7 (dk_at dksX1_resize_5 0 rfl rfl)
theorem dX1_resize_118 : decode cX1_resize 118 = .ok (.iconst 0, 1) := dk_3 (dk_at dksX1_resize_5 3 rfl rfl)
theorem dX1_resize_119 : decode cX1_resize 119 = .ok (.goto 12, 3) := dk_167 0 12 (dk_at dksX1_resize_5 4 rfl rfl)
theorem dX1_resize_122 : decode cX1_resize 122 = .ok (.aload_n 0, 1) := dk_42 (dk_at dksX1_resize_5 7 rfl rfl)
theorem dX1_resize_123 : decode cX1_resize 123 = .ok (.iload_n 3, 1) := dk_29 (dk_at dksX1_resize_5 8 rfl rfl)
theorem dX1_resize_124 : decode cX1_resize 124 = .ok (.iload_n 2, 1) := dk_28 (dk_at dksX1_resize_5 9 rfl rfl)
theorem dX1_resize_125 : decode cX1_resize 125 = .ok (.bipush 64, 2) := dk_16 64 (dk_at dksX1_resize_5 10 rfl rfl)
theorem dX1_resize_127 : decode cX1_resize 127 = .ok (.idiv, 1) := dk_108 (dk_at dksX1_resize_5 12 rfl rfl)
theorem dX1_resize_128 : decode cX1_resize 128 = .ok (.invokevirtual 356, 3) := dk_182 1 100 (dk_at dksX1_resize_5 13 rfl rfl)
theorem dX1_resize_131 : decode cX1_resize 131 = .ok (.istore 6, 2) := dk_54 6 (dk_at dksX1_resize_5 16 rfl rfl)
theorem dX1_resize_133 : decode cX1_resize 133 = .ok (.iload 6, 2) := dk_21 6 (dk_at dksX1_resize_5 18 rfl rfl)
theorem dX1_resize_135 : decode cX1_resize 135 = .ok (.iload_n 2, 1) := dk_28 (dk_at dksX1_resize_5 20 rfl rfl)
theorem dX1_resize_136 : decode cX1_resize 136 = .ok (.bipush 64, 2) := dk_16 64 (dk_at dksX1_resize_5 21 rfl rfl)
theorem dX1_resize_138 : decode cX1_resize 138 = .ok (.irem, 1) := dk_112 (dk_at dksX1_resize_5 23 rfl rfl)
theorem dX1_resize_139 : decode cX1_resize 139 = .ok (.if_icmp .le 14, 3) := dk_164 0 14 (dk_at dksX1_resize_6 0 rfl rfl)
theorem dX1_resize_142 : decode cX1_resize 142 = .ok (.iload_n 2, 1) := dk_28 (dk_at dksX1_resize_6 3 rfl rfl)
theorem dX1_resize_143 : decode cX1_resize 143 = .ok (.bipush 64, 2) := dk_16 64 (dk_at dksX1_resize_6 4 rfl rfl)
theorem dX1_resize_145 : decode cX1_resize 145 = .ok (.irem, 1) := dk_112 (dk_at dksX1_resize_6 6 rfl rfl)
theorem dX1_resize_146 : decode cX1_resize 146 = .ok (.ifCond .le 7, 3) := dk_158 0 7 (dk_at dksX1_resize_6 7 rfl rfl)
theorem dX1_resize_149 : decode cX1_resize 149 = .ok (.iconst 1, 1) := dk_4 (dk_at dksX1_resize_6 10 rfl rfl)
theorem dX1_resize_150 : decode cX1_resize 150 = .ok (.goto 4, 3) := dk_167 0 4 (dk_at dksX1_resize_6 11 rfl rfl)
theorem dX1_resize_153 : decode cX1_resize 153 = .ok (.iconst 0, 1) := dk_3 (dk_at dksX1_resize_6 14 rfl rfl)
theorem dX1_resize_154 : decode cX1_resize 154 = .ok (.istore 7, 2) := dk_54 7 (dk_at dksX1_resize_6 15 rfl rfl)
theorem dX1_resize_156 : decode cX1_resize 156 = .ok (.aload_n 0, 1) := dk_42 (dk_at dksX1_resize_6 17 rfl rfl)
theorem dX1_resize_157 : decode cX1_resize 157 = .ok (.getfield 40, 3) := dk_180 0 40 (dk_at dksX1_resize_6 18 rfl rfl)
theorem dX1_resize_160 : decode cX1_resize 160 = .ok (.iconst 4, 1) := dk_7 (dk_at dksX1_resize_6 21 rfl rfl)
theorem dX1_resize_161 : decode cX1_resize 161 = .ok (.bipush 40, 2) := dk_16 40 (dk_at dksX1_resize_6 22 rfl rfl)
theorem dX1_resize_163 : decode cX1_resize 163 = .ok (.invokevirtual 220, 3) := dk_182 0 220 (dk_at dksX1_resize_7 0 rfl rfl)
theorem dX1_resize_166 : decode cX1_resize 166 = .ok (.iconst 0, 1) := dk_3 (dk_at dksX1_resize_7 3 rfl rfl)
theorem dX1_resize_167 : decode cX1_resize 167 = .ok (.iload_n 3, 1) := dk_29 (dk_at dksX1_resize_7 4 rfl rfl)
theorem dX1_resize_168 : decode cX1_resize 168 = .ok (.invokevirtual 224, 3) := dk_182 0 224 (dk_at dksX1_resize_7 5 rfl rfl)
theorem dX1_resize_171 : decode cX1_resize 171 = .ok (.iconst 4, 1) := dk_7 (dk_at dksX1_resize_7 8 rfl rfl)
theorem dX1_resize_172 : decode cX1_resize 172 = .ok (.iload_n 2, 1) := dk_28 (dk_at dksX1_resize_7 9 rfl rfl)
theorem dX1_resize_173 : decode cX1_resize 173 = .ok (.invokevirtual 224, 3) := dk_182 0 224 (dk_at dksX1_resize_7 10 rfl rfl)
theorem dX1_resize_176 : decode cX1_resize 176 = .ok (.pop, 1) := dk_87 (dk_at dksX1_resize_7 13 rfl rfl)
theorem dX1_resize_177 : decode cX1_resize 177 = .ok (.aload_n 0, 1) := dk_42 (dk_at dksX1_resize_7 14 rfl rfl)
theorem dX1_resize_178 : decode cX1_resize 178 = .ok (.getfield 40, 3) := dk_180 0 40 (dk_at dksX1_resize_7 15 rfl rfl)
theorem dX1_resize_181 : decode cX1_resize 181 = .ok (.lconst 0, 1) := dk_9 (dk_at dksX1_resize_7 18 rfl rfl)
theorem dX1_resize_182 : decode cX1_resize 182 = .ok (.iload 7, 2) := dk_21 7 (dk_at dksX1_resize_7 19 rfl rfl)
theorem dX1_resize_184 : decode cX1_resize 184 = .ok (.ifCond .ne 7, 3) := dk_154 0 7 (dk_at dksX1_resize_7 21 rfl rfl)
theorem dX1_resize_187 : decode cX1_resize 187 = .ok (.iconst 1, 1) := dk_4 (dk_at dksX1_resize_8 0 rfl rfl)
theorem dX1_resize_188 : decode cX1_resize 188 = .ok (.goto 4, 3) := dk_167 0 4 (dk_at dksX1_resize_8 1 rfl rfl)
theorem dX1_resize_191 : decode cX1_resize 191 = .ok (.iconst 0, 1) := dk_3 (dk_at dksX1_resize_8 4 rfl rfl)
theorem dX1_resize_192 : decode cX1_resize 192 = .ok (.invokevirtual 227, 3) := dk_182 0 227 (dk_at dksX1_resize_8 5 rfl rfl)
theorem dX1_resize_195 : decode cX1_resize 195 = .ok (.iload 7, 2) := dk_21 7 (dk_at dksX1_resize_8 8 rfl rfl)
theorem dX1_resize_197 : decode cX1_resize 197 = .ok (.ifCond .eq 25, 3) := dk_153 0 25 (dk_at dksX1_resize_8 10 rfl rfl)
theorem dX1_resize_200 : decode cX1_resize 200 = .ok (.aload_n 0, 1) := dk_42 (dk_at dksX1_resize_8 13 rfl rfl)
theorem dX1_resize_201 : decode cX1_resize 201 = .ok (.iload_n 3, 1) := dk_29 (dk_at dksX1_resize_8 14 rfl rfl)
theorem dX1_resize_202 : decode cX1_resize 202 = .ok (.iload_n 2, 1) := dk_28 (dk_at dksX1_resize_8 15 rfl rfl)
theorem dX1_resize_203 : decode cX1_resize 203 = .ok (.bipush 64, 2) := dk_16 64 (dk_at dksX1_resize_8 16 rfl rfl)
theorem dX1_resize_205 : decode cX1_resize 205 = .ok (.idiv, 1) := dk_108 (dk_at dksX1_resize_8 18 rfl rfl)
theorem dX1_resize_206 : decode cX1_resize 206 = .ok (.iload_n 2, 1) := dk_28 (dk_at dksX1_resize_8 19 rfl rfl)
theorem dX1_resize_207 : decode cX1_resize 207 = .ok (.bipush 64, 2) := dk_16 64 (dk_at dksX1_resize_8 20 rfl rfl)
theorem dX1_resize_209 : decode cX1_resize 209 = .ok (.irem, 1) := dk_112 (dk_at dksX1_resize_8 22 rfl rfl)
theorem dX1_resize_210 : decode cX1_resize 210 = .ok (.invokevirtual 306, 3) := dk_182 1 50 (dk_at dksX1_resize_9 0 rfl rfl)
theorem dX1_resize_213 : decode cX1_resize 213 = .ok (.aload_n 0, 1) := dk_42 (dk_at dksX1_resize_9 3 rfl rfl)
theorem dX1_resize_214 : decode cX1_resize 214 = .ok (.getfield 40, 3) := dk_180 0 40 (dk_at dksX1_resize_9 4 rfl rfl)
theorem dX1_resize_217 : decode cX1_resize 217 = .ok (.lconst 0, 1) := dk_9 (dk_at dksX1_resize_9 7 rfl rfl)
theorem dX1_resize_218 : decode cX1_resize 218 = .ok (.iconst 1, 1) := dk_4 (dk_at dksX1_resize_9 8 rfl rfl)
theorem dX1_resize_219 : decode cX1_resize 219 = .ok (.invokevirtual 227, 3) := dk_182 0 227 (dk_at dksX1_resize_9 9 rfl rfl)
theorem dX1_resize_222 : decode cX1_resize 222 = .ok (.aload_n 0, 1) := dk_42 (dk_at dksX1_resize_9 12 rfl rfl)
theorem dX1_resize_223 : decode cX1_resize 223 = .ok (.invokevirtual 310, 3) := dk_182 1 54 (dk_at dksX1_resize_9 13 rfl rfl)
theorem dX1_resize_226 : decode cX1_resize 226 = .ok (.aload_n 0, 1) := dk_42 (dk_at dksX1_resize_9 16 rfl rfl)
theorem dX1_resize_227 : decode cX1_resize 227 = .ok (.dup, 1) := dk_89 (dk_at dksX1_resize_9 17 rfl rfl)
theorem dX1_resize_228 : decode cX1_resize 228 = .ok (.getfield 130, 3) := dk_180 0 130 (dk_at dksX1_resize_9 18 rfl rfl)
theorem dX1_resize_231 : decode cX1_resize 231 = .ok (.aload_n 0, 1) := dk_42 (dk_at dksX1_resize_9 21 rfl rfl)
theorem dX1_resize_232 : decode cX1_resize 232 = .ok (.iload_n 3, 1) := dk_29 (dk_at dksX1_resize_9 22 rfl rfl)
theorem dX1_resize_233 : decode cX1_resize 233 = .ok (.invokevirtual 263, 3) := dk_182 1 7 (dk_at dksX1_resize_10 0 rfl rfl)
theorem dX1_resize_236 : decode cX1_resize 236 = .ok (.iload 5, 2) := dk_21 5 (dk_at dksX1_resize_10 3 rfl rfl)
theorem dX1_resize_238 : decode cX1_resize 238 = .ok (.isub, 1) := dk_100 (dk_at dksX1_resize_10 5 rfl rfl)
theorem dX1_resize_239 : decode cX1_resize 239 = .ok (.iadd, 1) := dk_96 (dk_at dksX1_resize_10 6 rfl rfl)
theorem dX1_resize_240 : decode cX1_resize 240 = .ok (.putfield 130, 3) := dk_181 0 130 (dk_at dksX1_resize_10 7 rfl rfl)
theorem dX1_resize_243 : decode cX1_resize 243 = .ok (.iload 4, 2) := dk_21 4 (dk_at dksX1_resize_10 10 rfl rfl)
theorem dX1_resize_245 : decode cX1_resize 245 = .ok (.ireturn, 1) := dk_172 (dk_at dksX1_resize_10 12 rfl rfl)
abbrev cX1_byteAt : ByteArray := prog_1_method_72_code
def yX1_byteAt : MethodName := ⟨RX1, "byteAt", "(II)I"⟩
def dkwX1_byteAt_3 : List UInt8 := [42, 180, 0, 47, 28, 16, 64, 112, 51, 17, 0, 255, 126, 172]
abbrev dktX1_byteAt_3 : List UInt8 := dkwX1_byteAt_3 ++ []
def dkwX1_byteAt_2 : List UInt8 := [184, 0, 89, 154, 0, 5, 2, 172, 42, 42, 180, 0, 54, 180, 0, 177, 28, 16, 64, 108, 182, 1, 100, 87]
abbrev dktX1_byteAt_2 : List UInt8 := dkwX1_byteAt_2 ++ dktX1_byteAt_3
def dkwX1_byteAt_1 : List UInt8 := [180, 0, 32, 27, 46, 42, 180, 0, 54, 182, 0, 214, 87, 28, 3, 42, 180, 0, 54, 180, 0, 188, 4, 100]
abbrev dktX1_byteAt_1 : List UInt8 := dkwX1_byteAt_1 ++ dktX1_byteAt_2
def dkwX1_byteAt_0 : List UInt8 := [42, 180, 0, 28, 154, 0, 6, 16, 254, 172, 42, 27, 182, 1, 112, 154, 0, 6, 16, 253, 172, 42, 42]
abbrev dktX1_byteAt_0 : List UInt8 := dkwX1_byteAt_0 ++ dktX1_byteAt_1
theorem dksX1_byteAt_0 : cX1_byteAt.data.toList.drop 0 = dktX1_byteAt_0 := by decide +kernel
theorem dksX1_byteAt_1 : cX1_byteAt.data.toList.drop 23 = dktX1_byteAt_1 := dk_seg dksX1_byteAt_0 23 rfl rfl
theorem dksX1_byteAt_2 : cX1_byteAt.data.toList.drop 47 = dktX1_byteAt_2 := dk_seg dksX1_byteAt_1 24 rfl rfl
theorem dksX1_byteAt_3 : cX1_byteAt.data.toList.drop 71 = dktX1_byteAt_3 := dk_seg dksX1_byteAt_2 24 rfl rfl
theorem dX1_byteAt_0 : decode cX1_byteAt 0 = .ok (.aload_n 0, 1) := dk_42 (dk_at dksX1_byteAt_0 0 rfl rfl)
theorem dX1_byteAt_1 : decode cX1_byteAt 1 = .ok (.getfield 28, 3) := dk_180 0 28 (dk_at dksX1_byteAt_0 1 rfl rfl)
theorem dX1_byteAt_4 : decode cX1_byteAt 4 = .ok (.ifCond .ne 6, 3) := dk_154 0 6 (dk_at dksX1_byteAt_0 4 rfl rfl)
theorem dX1_byteAt_7 : decode cX1_byteAt 7 = .ok (.bipush (-2), 2) := dk_16 254 (dk_at dksX1_byteAt_0 7 rfl rfl)
theorem dX1_byteAt_9 : decode cX1_byteAt 9 = .ok (.ireturn, 1) := dk_172 (dk_at dksX1_byteAt_0 9 rfl rfl)
theorem dX1_byteAt_10 : decode cX1_byteAt 10 = .ok (.aload_n 0, 1) := dk_42 (dk_at dksX1_byteAt_0 10 rfl rfl)
theorem dX1_byteAt_11 : decode cX1_byteAt 11 = .ok (.iload_n 1, 1) := dk_27 (dk_at dksX1_byteAt_0 11 rfl rfl)
theorem dX1_byteAt_12 : decode cX1_byteAt 12 = .ok (.invokevirtual 368, 3) := dk_182 1 112 (dk_at dksX1_byteAt_0 12 rfl rfl)
theorem dX1_byteAt_15 : decode cX1_byteAt 15 = .ok (.ifCond .ne 6, 3) := dk_154 0 6 (dk_at dksX1_byteAt_0 15 rfl rfl)
theorem dX1_byteAt_18 : decode cX1_byteAt 18 = .ok (.bipush (-3), 2) := dk_16 253 (dk_at dksX1_byteAt_0 18 rfl rfl)
theorem dX1_byteAt_20 : decode cX1_byteAt 20 = .ok (.ireturn, 1) := dk_172 (dk_at dksX1_byteAt_0 20 rfl rfl)
theorem dX1_byteAt_21 : decode cX1_byteAt 21 = .ok (.aload_n 0, 1) := dk_42 (dk_at dksX1_byteAt_0 21 rfl rfl)
theorem dX1_byteAt_22 : decode cX1_byteAt 22 = .ok (.aload_n 0, 1) := dk_42 (dk_at dksX1_byteAt_0 22 rfl rfl)
theorem dX1_byteAt_23 : decode cX1_byteAt 23 = .ok (.getfield 32, 3) := dk_180 0 32 (dk_at dksX1_byteAt_1 0 rfl rfl)
theorem dX1_byteAt_26 : decode cX1_byteAt 26 = .ok (.iload_n 1, 1) := dk_27 (dk_at dksX1_byteAt_1 3 rfl rfl)
theorem dX1_byteAt_27 : decode cX1_byteAt 27 = .ok (.iaload, 1) := dk_46 (dk_at dksX1_byteAt_1 4 rfl rfl)
theorem dX1_byteAt_28 : decode cX1_byteAt 28 = .ok (.aload_n 0, 1) := dk_42 (dk_at dksX1_byteAt_1 5 rfl rfl)
theorem dX1_byteAt_29 : decode cX1_byteAt 29 = .ok (.getfield 54, 3) := dk_180 0 54 (dk_at dksX1_byteAt_1 6 rfl rfl)
theorem dX1_byteAt_32 : decode cX1_byteAt 32 = .ok (.invokevirtual 214, 3) := dk_182 0 214 (dk_at dksX1_byteAt_1 9 rfl rfl)
theorem dX1_byteAt_35 : decode cX1_byteAt 35 = .ok (.pop, 1) := dk_87 (dk_at dksX1_byteAt_1 12 rfl rfl)
theorem dX1_byteAt_36 : decode cX1_byteAt 36 = .ok (.iload_n 2, 1) := dk_28 (dk_at dksX1_byteAt_1 13 rfl rfl)
theorem dX1_byteAt_37 : decode cX1_byteAt 37 = .ok (.iconst 0, 1) := dk_3 (dk_at dksX1_byteAt_1 14 rfl rfl)
theorem dX1_byteAt_38 : decode cX1_byteAt 38 = .ok (.aload_n 0, 1) := dk_42 (dk_at dksX1_byteAt_1 15 rfl rfl)
theorem dX1_byteAt_39 : decode cX1_byteAt 39 = .ok (.getfield 54, 3) := dk_180 0 54 (dk_at dksX1_byteAt_1 16 rfl rfl)
theorem dX1_byteAt_42 : decode cX1_byteAt 42 = .ok (.getfield 188, 3) := dk_180 0 188 (dk_at dksX1_byteAt_1 19 rfl rfl)
theorem dX1_byteAt_45 : decode cX1_byteAt 45 = .ok (.iconst 1, 1) := dk_4 (dk_at dksX1_byteAt_1 22 rfl rfl)
theorem dX1_byteAt_46 : decode cX1_byteAt 46 = .ok (.isub, 1) := dk_100 (dk_at dksX1_byteAt_1 23 rfl rfl)
theorem dX1_byteAt_47 : decode cX1_byteAt 47 = .ok (.invokestatic 89, 3) := dk_184 0 89 (dk_at dksX1_byteAt_2 0 rfl rfl)
theorem dX1_byteAt_50 : decode cX1_byteAt 50 = .ok (.ifCond .ne 5, 3) := dk_154 0 5 (dk_at dksX1_byteAt_2 3 rfl rfl)
theorem dX1_byteAt_53 : decode cX1_byteAt 53 = .ok (.iconst (-1), 1) := dk_2 (dk_at dksX1_byteAt_2 6 rfl rfl)
theorem dX1_byteAt_54 : decode cX1_byteAt 54 = .ok (.ireturn, 1) := dk_172 (dk_at dksX1_byteAt_2 7 rfl rfl)
theorem dX1_byteAt_55 : decode cX1_byteAt 55 = .ok (.aload_n 0, 1) := dk_42 (dk_at dksX1_byteAt_2 8 rfl rfl)
theorem dX1_byteAt_56 : decode cX1_byteAt 56 = .ok (.aload_n 0, 1) := dk_42 (dk_at dksX1_byteAt_2 9 rfl rfl)
theorem dX1_byteAt_57 : decode cX1_byteAt 57 = .ok (.getfield 54, 3) := dk_180 0 54 (dk_at dksX1_byteAt_2 10 rfl rfl)
theorem dX1_byteAt_60 : decode cX1_byteAt 60 = .ok (.getfield 177, 3) := dk_180 0 177 (dk_at dksX1_byteAt_2 13 rfl rfl)
theorem dX1_byteAt_63 : decode cX1_byteAt 63 = .ok (.iload_n 2, 1) := dk_28 (dk_at dksX1_byteAt_2 16 rfl rfl)
theorem dX1_byteAt_64 : decode cX1_byteAt 64 = .ok (.bipush 64, 2) := dk_16 64 (dk_at dksX1_byteAt_2 17 rfl rfl)
theorem dX1_byteAt_66 : decode cX1_byteAt 66 = .ok (.idiv, 1) := dk_108 (dk_at dksX1_byteAt_2 19 rfl rfl)
theorem dX1_byteAt_67 : decode cX1_byteAt 67 = .ok (.invokevirtual 356, 3) := dk_182 1 100 (dk_at dksX1_byteAt_2 20 rfl rfl)
theorem dX1_byteAt_70 : decode cX1_byteAt 70 = .ok (.pop, 1) := dk_87 (dk_at dksX1_byteAt_2 23 rfl rfl)
theorem dX1_byteAt_71 : decode cX1_byteAt 71 = .ok (.aload_n 0, 1) := dk_42 (dk_at dksX1_byteAt_3 0 rfl rfl)
theorem dX1_byteAt_72 : decode cX1_byteAt 72 = .ok (.getfield 47, 3) := dk_180 0 47 (dk_at dksX1_byteAt_3 1 rfl rfl)
theorem dX1_byteAt_75 : decode cX1_byteAt 75 = .ok (.iload_n 2, 1) := dk_28 (dk_at dksX1_byteAt_3 4 rfl rfl)
theorem dX1_byteAt_76 : decode cX1_byteAt 76 = .ok (.bipush 64, 2) := dk_16 64 (dk_at dksX1_byteAt_3 5 rfl rfl)
theorem dX1_byteAt_78 : decode cX1_byteAt 78 = .ok (.irem, 1) := dk_112 (dk_at dksX1_byteAt_3 7 rfl rfl)
theorem dX1_byteAt_79 : decode cX1_byteAt 79 = .ok (.baload, 1) := dk_51 (dk_at dksX1_byteAt_3 8 rfl rfl)
theorem dX1_byteAt_80 : decode cX1_byteAt 80 = .ok (.sipush 255, 3) := dk_17 0 255 (dk_at dksX1_byteAt_3 9 rfl rfl)
theorem dX1_byteAt_83 : decode cX1_byteAt 83 = .ok (.iand, 1) := dk_126 (dk_at dksX1_byteAt_3 12 rfl rfl)
theorem dX1_byteAt_84 : decode cX1_byteAt 84 = .ok (.ireturn, 1) := dk_172 (dk_at dksX1_byteAt_3 13 rfl rfl)
abbrev cX1_word : ByteArray := prog_1_method_73_code
def yX1_word : MethodName := ⟨RX1, "word", "(II)J"⟩
def dkwX1_word_5 : List UInt8 := [132, 5, 255, 167, 255, 171, 33, 173]
abbrev dktX1_word_5 : List UInt8 := dkwX1_word_5 ++ []
def dkwX1_word_4 : List UInt8 := [182, 1, 100, 87, 33, 42, 180, 0, 47, 28, 21, 5, 96, 16, 64, 112, 51, 133, 20, 0, 195, 127, 129, 66]
abbrev dktX1_word_4 : List UInt8 := dkwX1_word_4 ++ dktX1_word_5
def dkwX1_word_3 : List UInt8 := [184, 0, 89, 154, 0, 6, 167, 0, 42, 42, 42, 180, 0, 54, 180, 0, 177, 28, 21, 5, 96, 16, 64, 108]
abbrev dktX1_word_3 : List UInt8 := dkwX1_word_3 ++ dktX1_word_4
def dkwX1_word_2 : List UInt8 := [28, 19, 1, 144, 21, 5, 100, 163, 0, 65, 28, 21, 5, 96, 3, 42, 180, 0, 54, 180, 0, 188, 4, 100]
abbrev dktX1_word_2 : List UInt8 := dkwX1_word_2 ++ dktX1_word_3
def dkwX1_word_1 : List UInt8 := [42, 180, 0, 54, 182, 0, 214, 87, 9, 66, 16, 7, 54, 5, 21, 5, 155, 0, 86, 33, 16, 8, 121, 66]
abbrev dktX1_word_1 : List UInt8 := dkwX1_word_1 ++ dktX1_word_2
def dkwX1_word_0 : List UInt8 := [42, 180, 0, 28, 153, 0, 11, 42, 27, 182, 1, 112, 154, 0, 5, 9, 173, 42, 42, 180, 0, 32, 27, 46]
abbrev dktX1_word_0 : List UInt8 := dkwX1_word_0 ++ dktX1_word_1
theorem dksX1_word_0 : cX1_word.data.toList.drop 0 = dktX1_word_0 := by decide +kernel
theorem dksX1_word_1 : cX1_word.data.toList.drop 24 = dktX1_word_1 := dk_seg dksX1_word_0 24 rfl rfl
theorem dksX1_word_2 : cX1_word.data.toList.drop 48 = dktX1_word_2 := dk_seg dksX1_word_1 24 rfl rfl
theorem dksX1_word_3 : cX1_word.data.toList.drop 72 = dktX1_word_3 := dk_seg dksX1_word_2 24 rfl rfl
theorem dksX1_word_4 : cX1_word.data.toList.drop 96 = dktX1_word_4 := dk_seg dksX1_word_3 24 rfl rfl
theorem dksX1_word_5 : cX1_word.data.toList.drop 120 = dktX1_word_5 := dk_seg dksX1_word_4 24 rfl rfl
theorem dX1_word_0 : decode cX1_word 0 = .ok (.aload_n 0, 1) := dk_42 (dk_at dksX1_word_0 0 rfl rfl)
theorem dX1_word_1 : decode cX1_word 1 = .ok (.getfield 28, 3) := dk_180 0 28 (dk_at dksX1_word_0 1 rfl rfl)
theorem dX1_word_4 : decode cX1_word 4 = .ok (.ifCond .eq 11, 3) := dk_153 0 11 (dk_at dksX1_word_0 4 rfl rfl)
theorem dX1_word_7 : decode cX1_word 7 = .ok (.aload_n 0, 1) := dk_42 (dk_at dksX1_word_0 7 rfl rfl)
theorem dX1_word_8 : decode cX1_word 8 = .ok (.iload_n 1, 1) := dk_27 (dk_at dksX1_word_0 8 rfl rfl)
theorem dX1_word_9 : decode cX1_word 9 = .ok (.invokevirtual 368, 3) := dk_182 1 112 (dk_at dksX1_word_0 9 rfl rfl)
theorem dX1_word_12 : decode cX1_word 12 = .ok (.ifCond .ne 5, 3) := dk_154 0 5 (dk_at dksX1_word_0 12 rfl rfl)
theorem dX1_word_15 : decode cX1_word 15 = .ok (.lconst 0, 1) := dk_9 (dk_at dksX1_word_0 15 rfl rfl)
theorem dX1_word_16 : decode cX1_word 16 = .ok (.lreturn, 1) := dk_173 (dk_at dksX1_word_0 16 rfl rfl)
theorem dX1_word_17 : decode cX1_word 17 = .ok (.aload_n 0, 1) := dk_42 (dk_at dksX1_word_0 17 rfl rfl)
theorem dX1_word_18 : decode cX1_word 18 = .ok (.aload_n 0, 1) := dk_42 (dk_at dksX1_word_0 18 rfl rfl)
theorem dX1_word_19 : decode cX1_word 19 = .ok (.getfield 32, 3) := dk_180 0 32 (dk_at dksX1_word_0 19 rfl rfl)
theorem dX1_word_22 : decode cX1_word 22 = .ok (.iload_n 1, 1) := dk_27 (dk_at dksX1_word_0 22 rfl rfl)
theorem dX1_word_23 : decode cX1_word 23 = .ok (.iaload, 1) := dk_46 (dk_at dksX1_word_0 23 rfl rfl)
theorem dX1_word_24 : decode cX1_word 24 = .ok (.aload_n 0, 1) := dk_42 (dk_at dksX1_word_1 0 rfl rfl)
theorem dX1_word_25 : decode cX1_word 25 = .ok (.getfield 54, 3) := dk_180 0 54 (dk_at dksX1_word_1 1 rfl rfl)
theorem dX1_word_28 : decode cX1_word 28 = .ok (.invokevirtual 214, 3) := dk_182 0 214 (dk_at dksX1_word_1 4 rfl rfl)
theorem dX1_word_31 : decode cX1_word 31 = .ok (.pop, 1) := dk_87 (dk_at dksX1_word_1 7 rfl rfl)
theorem dX1_word_32 : decode cX1_word 32 = .ok (.lconst 0, 1) := dk_9 (dk_at dksX1_word_1 8 rfl rfl)
theorem dX1_word_33 : decode cX1_word 33 = .ok (.lstore_n 3, 1) := dk_66 (dk_at dksX1_word_1 9 rfl rfl)
theorem dX1_word_34 : decode cX1_word 34 = .ok (.bipush 7, 2) := dk_16 7 (dk_at dksX1_word_1 10 rfl rfl)
theorem dX1_word_36 : decode cX1_word 36 = .ok (.istore 5, 2) := dk_54 5 (dk_at dksX1_word_1 12 rfl rfl)
theorem dX1_word_38 : decode cX1_word 38 = .ok (.iload 5, 2) := dk_21 5 (dk_at dksX1_word_1 14 rfl rfl)
theorem dX1_word_40 : decode cX1_word 40 = .ok (.ifCond .lt 86, 3) := dk_155 0 86 (dk_at dksX1_word_1 16 rfl rfl)
theorem dX1_word_43 : decode cX1_word 43 = .ok (.lload_n 3, 1) := dk_33 (dk_at dksX1_word_1 19 rfl rfl)
theorem dX1_word_44 : decode cX1_word 44 = .ok (.bipush 8, 2) := dk_16 8 (dk_at dksX1_word_1 20 rfl rfl)
theorem dX1_word_46 : decode cX1_word 46 = .ok (.lshl, 1) := dk_121 (dk_at dksX1_word_1 22 rfl rfl)
theorem dX1_word_47 : decode cX1_word 47 = .ok (.lstore_n 3, 1) := dk_66 (dk_at dksX1_word_1 23 rfl rfl)
theorem dX1_word_48 : decode cX1_word 48 = .ok (.iload_n 2, 1) := dk_28 (dk_at dksX1_word_2 0 rfl rfl)
theorem dX1_word_49 : decode cX1_word 49 = .ok (.ldc_w 400, 3) := dk_19 1 144 (dk_at dksX1_word_2 1 rfl rfl)
theorem dX1_word_52 : decode cX1_word 52 = .ok (.iload 5, 2) := dk_21 5 (dk_at dksX1_word_2 4 rfl rfl)
theorem dX1_word_54 : decode cX1_word 54 = .ok (.isub, 1) := dk_100 (dk_at dksX1_word_2 6 rfl rfl)
theorem dX1_word_55 : decode cX1_word 55 = .ok (.if_icmp .gt 65, 3) := dk_163 0 65 (dk_at dksX1_word_2 7 rfl rfl)
theorem dX1_word_58 : decode cX1_word 58 = .ok (.iload_n 2, 1) := dk_28 (dk_at dksX1_word_2 10 rfl rfl)
theorem dX1_word_59 : decode cX1_word 59 = .ok (.iload 5, 2) := dk_21 5 (dk_at dksX1_word_2 11 rfl rfl)
theorem dX1_word_61 : decode cX1_word 61 = .ok (.iadd, 1) := dk_96 (dk_at dksX1_word_2 13 rfl rfl)
theorem dX1_word_62 : decode cX1_word 62 = .ok (.iconst 0, 1) := dk_3 (dk_at dksX1_word_2 14 rfl rfl)
theorem dX1_word_63 : decode cX1_word 63 = .ok (.aload_n 0, 1) := dk_42 (dk_at dksX1_word_2 15 rfl rfl)
theorem dX1_word_64 : decode cX1_word 64 = .ok (.getfield 54, 3) := dk_180 0 54 (dk_at dksX1_word_2 16 rfl rfl)
theorem dX1_word_67 : decode cX1_word 67 = .ok (.getfield 188, 3) := dk_180 0 188 (dk_at dksX1_word_2 19 rfl rfl)
theorem dX1_word_70 : decode cX1_word 70 = .ok (.iconst 1, 1) := dk_4 (dk_at dksX1_word_2 22 rfl rfl)
theorem dX1_word_71 : decode cX1_word 71 = .ok (.isub, 1) := dk_100 (dk_at dksX1_word_2 23 rfl rfl)
theorem dX1_word_72 : decode cX1_word 72 = .ok (.invokestatic 89, 3) := dk_184 0 89 (dk_at dksX1_word_3 0 rfl rfl)
theorem dX1_word_75 : decode cX1_word 75 = .ok (.ifCond .ne 6, 3) := dk_154 0 6 (dk_at dksX1_word_3 3 rfl rfl)
theorem dX1_word_78 : decode cX1_word 78 = .ok (.goto 42, 3) := dk_167 0 42 (dk_at dksX1_word_3 6 rfl rfl)
theorem dX1_word_81 : decode cX1_word 81 = .ok (.aload_n 0, 1) := dk_42 (dk_at dksX1_word_3 9 rfl rfl)
theorem dX1_word_82 : decode cX1_word 82 = .ok (.aload_n 0, 1) := dk_42 (dk_at dksX1_word_3 10 rfl rfl)
theorem dX1_word_83 : decode cX1_word 83 = .ok (.getfield 54, 3) := dk_180 0 54 (dk_at dksX1_word_3 11 rfl rfl)
theorem dX1_word_86 : decode cX1_word 86 = .ok (.getfield 177, 3) := dk_180 0 177 (dk_at dksX1_word_3 14 rfl rfl)
theorem dX1_word_89 : decode cX1_word 89 = .ok (.iload_n 2, 1) := dk_28 (dk_at dksX1_word_3 17 rfl rfl)
theorem dX1_word_90 : decode cX1_word 90 = .ok (.iload 5, 2) := dk_21 5 (dk_at dksX1_word_3 18 rfl rfl)
theorem dX1_word_92 : decode cX1_word 92 = .ok (.iadd, 1) := dk_96 (dk_at dksX1_word_3 20 rfl rfl)
theorem dX1_word_93 : decode cX1_word 93 = .ok (.bipush 64, 2) := dk_16 64 (dk_at dksX1_word_3 21 rfl rfl)
theorem dX1_word_95 : decode cX1_word 95 = .ok (.idiv, 1) := dk_108 (dk_at dksX1_word_3 23 rfl rfl)
theorem dX1_word_96 : decode cX1_word 96 = .ok (.invokevirtual 356, 3) := dk_182 1 100 (dk_at dksX1_word_4 0 rfl rfl)
theorem dX1_word_99 : decode cX1_word 99 = .ok (.pop, 1) := dk_87 (dk_at dksX1_word_4 3 rfl rfl)
theorem dX1_word_100 : decode cX1_word 100 = .ok (.lload_n 3, 1) := dk_33 (dk_at dksX1_word_4 4 rfl rfl)
theorem dX1_word_101 : decode cX1_word 101 = .ok (.aload_n 0, 1) := dk_42 (dk_at dksX1_word_4 5 rfl rfl)
theorem dX1_word_102 : decode cX1_word 102 = .ok (.getfield 47, 3) := dk_180 0 47 (dk_at dksX1_word_4 6 rfl rfl)
theorem dX1_word_105 : decode cX1_word 105 = .ok (.iload_n 2, 1) := dk_28 (dk_at dksX1_word_4 9 rfl rfl)
theorem dX1_word_106 : decode cX1_word 106 = .ok (.iload 5, 2) := dk_21 5 (dk_at dksX1_word_4 10 rfl rfl)
theorem dX1_word_108 : decode cX1_word 108 = .ok (.iadd, 1) := dk_96 (dk_at dksX1_word_4 12 rfl rfl)
theorem dX1_word_109 : decode cX1_word 109 = .ok (.bipush 64, 2) := dk_16 64 (dk_at dksX1_word_4 13 rfl rfl)
theorem dX1_word_111 : decode cX1_word 111 = .ok (.irem, 1) := dk_112 (dk_at dksX1_word_4 15 rfl rfl)
theorem dX1_word_112 : decode cX1_word 112 = .ok (.baload, 1) := dk_51 (dk_at dksX1_word_4 16 rfl rfl)
theorem dX1_word_113 : decode cX1_word 113 = .ok (.i2l, 1) := dk_133 (dk_at dksX1_word_4 17 rfl rfl)
theorem dX1_word_114 : decode cX1_word 114 = .ok (.ldc2_w 195, 3) := dk_20 0 195 (dk_at dksX1_word_4 18 rfl rfl)
theorem dX1_word_117 : decode cX1_word 117 = .ok (.land, 1) := dk_127 (dk_at dksX1_word_4 21 rfl rfl)
theorem dX1_word_118 : decode cX1_word 118 = .ok (.lor, 1) := dk_129 (dk_at dksX1_word_4 22 rfl rfl)
theorem dX1_word_119 : decode cX1_word 119 = .ok (.lstore_n 3, 1) := dk_66 (dk_at dksX1_word_4 23 rfl rfl)
theorem dX1_word_120 : decode cX1_word 120 = .ok (.iinc 5 (-1), 3) := dk_132 5 255 (dk_at dksX1_word_5 0 rfl rfl)
theorem dX1_word_123 : decode cX1_word 123 = .ok (.goto (-85), 3) := dk_167 255 171 (dk_at dksX1_word_5 3 rfl rfl)
theorem dX1_word_126 : decode cX1_word 126 = .ok (.lload_n 3, 1) := dk_33 (dk_at dksX1_word_5 6 rfl rfl)
theorem dX1_word_127 : decode cX1_word 127 = .ok (.lreturn, 1) := dk_173 (dk_at dksX1_word_5 7 rfl rfl)
abbrev cX1_sum : ByteArray := prog_1_method_74_code
def yX1_sum : MethodName := ⟨RX1, "sum", "(I)J"⟩
def dkwX1_sum_4 : List UInt8 := [104, 21, 6, 96, 4, 96, 133, 105, 97, 65, 132, 6, 1, 167, 255, 219, 132, 4, 1, 167, 255, 180, 32, 173]
abbrev dktX1_sum_4 : List UInt8 := dkwX1_sum_4 ++ []
def dkwX1_sum_3 : List UInt8 := [21, 6, 21, 5, 162, 0, 36, 32, 42, 180, 0, 47, 21, 6, 51, 133, 20, 0, 195, 127, 21, 4, 16, 64]
abbrev dktX1_sum_3 : List UInt8 := dkwX1_sum_3 ++ dktX1_sum_4
def dkwX1_sum_2 : List UInt8 := [180, 0, 188, 162, 0, 67, 42, 42, 180, 0, 54, 180, 0, 177, 21, 4, 182, 1, 100, 54, 5, 3, 54, 6]
abbrev dktX1_sum_2 : List UInt8 := dkwX1_sum_2 ++ dktX1_sum_3
def dkwX1_sum_1 : List UInt8 := [42, 180, 0, 54, 182, 0, 214, 87, 9, 65, 3, 54, 4, 21, 4, 16, 64, 104, 42, 180, 0, 54]
abbrev dktX1_sum_1 : List UInt8 := dkwX1_sum_1 ++ dktX1_sum_2
def dkwX1_sum_0 : List UInt8 := [42, 180, 0, 28, 153, 0, 11, 42, 27, 182, 1, 112, 154, 0, 5, 9, 173, 42, 42, 180, 0, 32, 27, 46]
abbrev dktX1_sum_0 : List UInt8 := dkwX1_sum_0 ++ dktX1_sum_1
theorem dksX1_sum_0 : cX1_sum.data.toList.drop 0 = dktX1_sum_0 := by decide +kernel
theorem dksX1_sum_1 : cX1_sum.data.toList.drop 24 = dktX1_sum_1 := dk_seg dksX1_sum_0 24 rfl rfl
theorem dksX1_sum_2 : cX1_sum.data.toList.drop 46 = dktX1_sum_2 := dk_seg dksX1_sum_1 22 rfl rfl
theorem dksX1_sum_3 : cX1_sum.data.toList.drop 70 = dktX1_sum_3 := dk_seg dksX1_sum_2 24 rfl rfl
theorem dksX1_sum_4 : cX1_sum.data.toList.drop 94 = dktX1_sum_4 := dk_seg dksX1_sum_3 24 rfl rfl
theorem dX1_sum_0 : decode cX1_sum 0 = .ok (.aload_n 0, 1) := dk_42 (dk_at dksX1_sum_0 0 rfl rfl)
theorem dX1_sum_1 : decode cX1_sum 1 = .ok (.getfield 28, 3) := dk_180 0 28 (dk_at dksX1_sum_0 1 rfl rfl)
theorem dX1_sum_4 : decode cX1_sum 4 = .ok (.ifCond .eq 11, 3) := dk_153 0 11 (dk_at dksX1_sum_0 4 rfl rfl)
theorem dX1_sum_7 : decode cX1_sum 7 = .ok (.aload_n 0, 1) := dk_42 (dk_at dksX1_sum_0 7 rfl rfl)
theorem dX1_sum_8 : decode cX1_sum 8 = .ok (.iload_n 1, 1) := dk_27 (dk_at dksX1_sum_0 8 rfl rfl)
theorem dX1_sum_9 : decode cX1_sum 9 = .ok (.invokevirtual 368, 3) := dk_182 1 112 (dk_at dksX1_sum_0 9 rfl rfl)
theorem dX1_sum_12 : decode cX1_sum 12 = .ok (.ifCond .ne 5, 3) := dk_154 0 5 (dk_at dksX1_sum_0 12 rfl rfl)
theorem dX1_sum_15 : decode cX1_sum 15 = .ok (.lconst 0, 1) := dk_9 (dk_at dksX1_sum_0 15 rfl rfl)
theorem dX1_sum_16 : decode cX1_sum 16 = .ok (.lreturn, 1) := dk_173 (dk_at dksX1_sum_0 16 rfl rfl)
theorem dX1_sum_17 : decode cX1_sum 17 = .ok (.aload_n 0, 1) := dk_42 (dk_at dksX1_sum_0 17 rfl rfl)
theorem dX1_sum_18 : decode cX1_sum 18 = .ok (.aload_n 0, 1) := dk_42 (dk_at dksX1_sum_0 18 rfl rfl)
theorem dX1_sum_19 : decode cX1_sum 19 = .ok (.getfield 32, 3) := dk_180 0 32 (dk_at dksX1_sum_0 19 rfl rfl)
theorem dX1_sum_22 : decode cX1_sum 22 = .ok (.iload_n 1, 1) := dk_27 (dk_at dksX1_sum_0 22 rfl rfl)
theorem dX1_sum_23 : decode cX1_sum 23 = .ok (.iaload, 1) := dk_46 (dk_at dksX1_sum_0 23 rfl rfl)
theorem dX1_sum_24 : decode cX1_sum 24 = .ok (.aload_n 0, 1) := dk_42 (dk_at dksX1_sum_1 0 rfl rfl)
theorem dX1_sum_25 : decode cX1_sum 25 = .ok (.getfield 54, 3) := dk_180 0 54 (dk_at dksX1_sum_1 1 rfl rfl)
theorem dX1_sum_28 : decode cX1_sum 28 = .ok (.invokevirtual 214, 3) := dk_182 0 214 (dk_at dksX1_sum_1 4 rfl rfl)
theorem dX1_sum_31 : decode cX1_sum 31 = .ok (.pop, 1) := dk_87 (dk_at dksX1_sum_1 7 rfl rfl)
theorem dX1_sum_32 : decode cX1_sum 32 = .ok (.lconst 0, 1) := dk_9 (dk_at dksX1_sum_1 8 rfl rfl)
theorem dX1_sum_33 : decode cX1_sum 33 = .ok (.lstore_n 2, 1) := dk_65 (dk_at dksX1_sum_1 9 rfl rfl)
theorem dX1_sum_34 : decode cX1_sum 34 = .ok (.iconst 0, 1) := dk_3 (dk_at dksX1_sum_1 10 rfl rfl)
theorem dX1_sum_35 : decode cX1_sum 35 = .ok (.istore 4, 2) := dk_54 4 (dk_at dksX1_sum_1 11 rfl rfl)
theorem dX1_sum_37 : decode cX1_sum 37 = .ok (.iload 4, 2) := dk_21 4 (dk_at dksX1_sum_1 13 rfl rfl)
theorem dX1_sum_39 : decode cX1_sum 39 = .ok (.bipush 64, 2) := dk_16 64 (dk_at dksX1_sum_1 15 rfl rfl)
theorem dX1_sum_41 : decode cX1_sum 41 = .ok (.imul, 1) := dk_104 (dk_at dksX1_sum_1 17 rfl rfl)
theorem dX1_sum_42 : decode cX1_sum 42 = .ok (.aload_n 0, 1) := dk_42 (dk_at dksX1_sum_1 18 rfl rfl)
theorem dX1_sum_43 : decode cX1_sum 43 = .ok (.getfield 54, 3) := dk_180 0 54 (dk_at dksX1_sum_1 19 rfl rfl)
theorem dX1_sum_46 : decode cX1_sum 46 = .ok (.getfield 188, 3) := dk_180 0 188 (dk_at dksX1_sum_2 0 rfl rfl)
theorem dX1_sum_49 : decode cX1_sum 49 = .ok (.if_icmp .ge 67, 3) := dk_162 0 67 (dk_at dksX1_sum_2 3 rfl rfl)
theorem dX1_sum_52 : decode cX1_sum 52 = .ok (.aload_n 0, 1) := dk_42 (dk_at dksX1_sum_2 6 rfl rfl)
theorem dX1_sum_53 : decode cX1_sum 53 = .ok (.aload_n 0, 1) := dk_42 (dk_at dksX1_sum_2 7 rfl rfl)
theorem dX1_sum_54 : decode cX1_sum 54 = .ok (.getfield 54, 3) := dk_180 0 54 (dk_at dksX1_sum_2 8 rfl rfl)
theorem dX1_sum_57 : decode cX1_sum 57 = .ok (.getfield 177, 3) := dk_180 0 177 (dk_at dksX1_sum_2 11 rfl rfl)
theorem dX1_sum_60 : decode cX1_sum 60 = .ok (.iload 4, 2) := dk_21 4 (dk_at dksX1_sum_2 14 rfl rfl)
theorem dX1_sum_62 : decode cX1_sum 62 = .ok (.invokevirtual 356, 3) := dk_182 1 100 (dk_at dksX1_sum_2 16 rfl rfl)
theorem dX1_sum_65 : decode cX1_sum 65 = .ok (.istore 5, 2) := dk_54 5 (dk_at dksX1_sum_2 19 rfl rfl)
theorem dX1_sum_67 : decode cX1_sum 67 = .ok (.iconst 0, 1) := dk_3 (dk_at dksX1_sum_2 21 rfl rfl)
theorem dX1_sum_68 : decode cX1_sum 68 = .ok (.istore 6, 2) := dk_54 6 (dk_at dksX1_sum_2 22 rfl rfl)
theorem dX1_sum_70 : decode cX1_sum 70 = .ok (.iload 6, 2) := dk_21 6 (dk_at dksX1_sum_3 0 rfl rfl)
theorem dX1_sum_72 : decode cX1_sum 72 = .ok (.iload 5, 2) := dk_21 5 (dk_at dksX1_sum_3 2 rfl rfl)
theorem dX1_sum_74 : decode cX1_sum 74 = .ok (.if_icmp .ge 36, 3) := dk_162 0 36 (dk_at dksX1_sum_3 4 rfl rfl)
theorem dX1_sum_77 : decode cX1_sum 77 = .ok (.lload_n 2, 1) := dk_32 (dk_at dksX1_sum_3 7 rfl rfl)
theorem dX1_sum_78 : decode cX1_sum 78 = .ok (.aload_n 0, 1) := dk_42 (dk_at dksX1_sum_3 8 rfl rfl)
theorem dX1_sum_79 : decode cX1_sum 79 = .ok (.getfield 47, 3) := dk_180 0 47 (dk_at dksX1_sum_3 9 rfl rfl)
theorem dX1_sum_82 : decode cX1_sum 82 = .ok (.iload 6, 2) := dk_21 6 (dk_at dksX1_sum_3 12 rfl rfl)
theorem dX1_sum_84 : decode cX1_sum 84 = .ok (.baload, 1) := dk_51 (dk_at dksX1_sum_3 14 rfl rfl)
theorem dX1_sum_85 : decode cX1_sum 85 = .ok (.i2l, 1) := dk_133 (dk_at dksX1_sum_3 15 rfl rfl)
theorem dX1_sum_86 : decode cX1_sum 86 = .ok (.ldc2_w 195, 3) := dk_20 0 195 (dk_at dksX1_sum_3 16 rfl rfl)
theorem dX1_sum_89 : decode cX1_sum 89 = .ok (.land, 1) := dk_127 (dk_at dksX1_sum_3 19 rfl rfl)
theorem dX1_sum_90 : decode cX1_sum 90 = .ok (.iload 4, 2) := dk_21 4 (dk_at dksX1_sum_3 20 rfl rfl)
theorem dX1_sum_92 : decode cX1_sum 92 = .ok (.bipush 64, 2) := dk_16 64 (dk_at dksX1_sum_3 22 rfl rfl)
theorem dX1_sum_94 : decode cX1_sum 94 = .ok (.imul, 1) := dk_104 (dk_at dksX1_sum_4 0 rfl rfl)
theorem dX1_sum_95 : decode cX1_sum 95 = .ok (.iload 6, 2) := dk_21 6 (dk_at dksX1_sum_4 1 rfl rfl)
theorem dX1_sum_97 : decode cX1_sum 97 = .ok (.iadd, 1) := dk_96 (dk_at dksX1_sum_4 3 rfl rfl)
theorem dX1_sum_98 : decode cX1_sum 98 = .ok (.iconst 1, 1) := dk_4 (dk_at dksX1_sum_4 4 rfl rfl)
theorem dX1_sum_99 : decode cX1_sum 99 = .ok (.iadd, 1) := dk_96 (dk_at dksX1_sum_4 5 rfl rfl)
theorem dX1_sum_100 : decode cX1_sum 100 = .ok (.i2l, 1) := dk_133 (dk_at dksX1_sum_4 6 rfl rfl)
theorem dX1_sum_101 : decode cX1_sum 101 = .ok (.lmul, 1) := dk_105 (dk_at dksX1_sum_4 7 rfl rfl)
theorem dX1_sum_102 : decode cX1_sum 102 = .ok (.ladd, 1) := dk_97 (dk_at dksX1_sum_4 8 rfl rfl)
theorem dX1_sum_103 : decode cX1_sum 103 = .ok (.lstore_n 2, 1) := dk_65 (dk_at dksX1_sum_4 9 rfl rfl)
theorem dX1_sum_104 : decode cX1_sum 104 = .ok (.iinc 6 1, 3) := dk_132 6 1 (dk_at dksX1_sum_4 10 rfl rfl)
theorem dX1_sum_107 : decode cX1_sum 107 = .ok (.goto (-37), 3) := dk_167 255 219 (dk_at dksX1_sum_4 13 rfl rfl)
theorem dX1_sum_110 : decode cX1_sum 110 = .ok (.iinc 4 1, 3) := dk_132 4 1 (dk_at dksX1_sum_4 16 rfl rfl)
theorem dX1_sum_113 : decode cX1_sum 113 = .ok (.goto (-76), 3) := dk_167 255 180 (dk_at dksX1_sum_4 19 rfl rfl)
theorem dX1_sum_116 : decode cX1_sum 116 = .ok (.lload_n 2, 1) := dk_32 (dk_at dksX1_sum_4 22 rfl rfl)
theorem dX1_sum_117 : decode cX1_sum 117 = .ok (.lreturn, 1) := dk_173 (dk_at dksX1_sum_4 23 rfl rfl)
abbrev cX1_rawWrite : ByteArray := prog_1_method_76_code
def yX1_rawWrite : MethodName := ⟨RX1, "rawWrite", "(II)I"⟩
def dkwX1_rawWrite_2 : List UInt8 := [160, 0, 8, 16, 246, 167, 0, 17, 42, 180, 0, 111, 180, 1, 148, 7, 27, 96, 28, 182, 1, 160, 172]
abbrev dktX1_rawWrite_2 : List UInt8 := dkwX1_rawWrite_2 ++ []
def dkwX1_rawWrite_1 : List UInt8 := [180, 0, 111, 180, 1, 148, 7, 27, 96, 182, 1, 152, 42, 180, 0, 111, 180, 1, 148, 182, 1, 157]
abbrev dktX1_rawWrite_1 : List UInt8 := dkwX1_rawWrite_1 ++ dktX1_rawWrite_2
def dkwX1_rawWrite_0 : List UInt8 := [42, 180, 0, 28, 154, 0, 6, 16, 254, 172, 42, 27, 182, 1, 145, 154, 0, 6, 16, 253, 172, 42]
abbrev dktX1_rawWrite_0 : List UInt8 := dkwX1_rawWrite_0 ++ dktX1_rawWrite_1
theorem dksX1_rawWrite_0 : cX1_rawWrite.data.toList.drop 0 = dktX1_rawWrite_0 := by decide +kernel
theorem dksX1_rawWrite_1 : cX1_rawWrite.data.toList.drop 22 = dktX1_rawWrite_1 := dk_seg dksX1_rawWrite_0 22 rfl rfl
theorem dksX1_rawWrite_2 : cX1_rawWrite.data.toList.drop 44 = dktX1_rawWrite_2 := dk_seg dksX1_rawWrite_1 22 rfl rfl
theorem dX1_rawWrite_0 : decode cX1_rawWrite 0 = .ok (.aload_n 0, 1) := dk_42 (dk_at dksX1_rawWrite_0 0 rfl rfl)
theorem dX1_rawWrite_1 : decode cX1_rawWrite 1 = .ok (.getfield 28, 3) := dk_180 0 28 (dk_at dksX1_rawWrite_0 1 rfl rfl)
theorem dX1_rawWrite_4 : decode cX1_rawWrite 4 = .ok (.ifCond .ne 6, 3) := dk_154 0 6 (dk_at dksX1_rawWrite_0 4 rfl rfl)
theorem dX1_rawWrite_7 : decode cX1_rawWrite 7 = .ok (.bipush (-2), 2) := dk_16 254 (dk_at dksX1_rawWrite_0 7 rfl rfl)
theorem dX1_rawWrite_9 : decode cX1_rawWrite 9 = .ok (.ireturn, 1) := dk_172 (dk_at dksX1_rawWrite_0 9 rfl rfl)
theorem dX1_rawWrite_10 : decode cX1_rawWrite 10 = .ok (.aload_n 0, 1) := dk_42 (dk_at dksX1_rawWrite_0 10 rfl rfl)
theorem dX1_rawWrite_11 : decode cX1_rawWrite 11 = .ok (.iload_n 1, 1) := dk_27 (dk_at dksX1_rawWrite_0 11 rfl rfl)
theorem dX1_rawWrite_12 : decode cX1_rawWrite 12 = .ok (.invokevirtual 401, 3) := dk_182 1 145 (dk_at dksX1_rawWrite_0 12 rfl rfl)
theorem dX1_rawWrite_15 : decode cX1_rawWrite 15 = .ok (.ifCond .ne 6, 3) := dk_154 0 6 (dk_at dksX1_rawWrite_0 15 rfl rfl)
theorem dX1_rawWrite_18 : decode cX1_rawWrite 18 = .ok (.bipush (-3), 2) := dk_16 253 (dk_at dksX1_rawWrite_0 18 rfl rfl)
theorem dX1_rawWrite_20 : decode cX1_rawWrite 20 = .ok (.ireturn, 1) := dk_172 (dk_at dksX1_rawWrite_0 20 rfl rfl)
theorem dX1_rawWrite_21 : decode cX1_rawWrite 21 = .ok (.aload_n 0, 1) := dk_42 (dk_at dksX1_rawWrite_0 21 rfl rfl)
theorem dX1_rawWrite_22 : decode cX1_rawWrite 22 = .ok (.getfield 111, 3) := dk_180 0 111 (dk_at dksX1_rawWrite_1 0 rfl rfl)
theorem dX1_rawWrite_25 : decode cX1_rawWrite 25 = .ok (.getfield 404, 3) := dk_180 1 148 (dk_at dksX1_rawWrite_1 3 rfl rfl)
theorem dX1_rawWrite_28 : decode cX1_rawWrite 28 = .ok (.iconst 4, 1) := dk_7 (dk_at dksX1_rawWrite_1 6 rfl rfl)
theorem dX1_rawWrite_29 : decode cX1_rawWrite 29 = .ok (.iload_n 1, 1) := dk_27 (dk_at dksX1_rawWrite_1 7 rfl rfl)
theorem dX1_rawWrite_30 : decode cX1_rawWrite 30 = .ok (.iadd, 1) := dk_96 (dk_at dksX1_rawWrite_1 8 rfl rfl)
theorem dX1_rawWrite_31 : decode cX1_rawWrite 31 = .ok (.invokevirtual 408, 3) := dk_182 1 152 (dk_at dksX1_rawWrite_1 9 rfl rfl)
theorem dX1_rawWrite_34 : decode cX1_rawWrite 34 = .ok (.aload_n 0, 1) := dk_42 (dk_at dksX1_rawWrite_1 12 rfl rfl)
theorem dX1_rawWrite_35 : decode cX1_rawWrite 35 = .ok (.getfield 111, 3) := dk_180 0 111 (dk_at dksX1_rawWrite_1 13 rfl rfl)
theorem dX1_rawWrite_38 : decode cX1_rawWrite 38 = .ok (.getfield 404, 3) := dk_180 1 148 (dk_at dksX1_rawWrite_1 16 rfl rfl)
theorem dX1_rawWrite_41 : decode cX1_rawWrite 41 = .ok (.invokevirtual 413, 3) := dk_182 1 157 (dk_at dksX1_rawWrite_1 19 rfl rfl)
theorem dX1_rawWrite_44 : decode cX1_rawWrite 44 = .ok (.if_icmp .ne 8, 3) := dk_160 0 8 (dk_at dksX1_rawWrite_2 0 rfl rfl)
theorem dX1_rawWrite_47 : decode cX1_rawWrite 47 = .ok (.bipush (-10), 2) := dk_16 246 (dk_at dksX1_rawWrite_2 3 rfl rfl)
theorem dX1_rawWrite_49 : decode cX1_rawWrite 49 = .ok (.goto 17, 3) := dk_167 0 17 (dk_at dksX1_rawWrite_2 5 rfl rfl)
theorem dX1_rawWrite_52 : decode cX1_rawWrite 52 = .ok (.aload_n 0, 1) := dk_42 (dk_at dksX1_rawWrite_2 8 rfl rfl)
theorem dX1_rawWrite_53 : decode cX1_rawWrite 53 = .ok (.getfield 111, 3) := dk_180 0 111 (dk_at dksX1_rawWrite_2 9 rfl rfl)
theorem dX1_rawWrite_56 : decode cX1_rawWrite 56 = .ok (.getfield 404, 3) := dk_180 1 148 (dk_at dksX1_rawWrite_2 12 rfl rfl)
theorem dX1_rawWrite_59 : decode cX1_rawWrite 59 = .ok (.iconst 4, 1) := dk_7 (dk_at dksX1_rawWrite_2 15 rfl rfl)
theorem dX1_rawWrite_60 : decode cX1_rawWrite 60 = .ok (.iload_n 1, 1) := dk_27 (dk_at dksX1_rawWrite_2 16 rfl rfl)
theorem dX1_rawWrite_61 : decode cX1_rawWrite 61 = .ok (.iadd, 1) := dk_96 (dk_at dksX1_rawWrite_2 17 rfl rfl)
theorem dX1_rawWrite_62 : decode cX1_rawWrite 62 = .ok (.iload_n 2, 1) := dk_28 (dk_at dksX1_rawWrite_2 18 rfl rfl)
theorem dX1_rawWrite_63 : decode cX1_rawWrite 63 = .ok (.invokevirtual 416, 3) := dk_182 1 160 (dk_at dksX1_rawWrite_2 19 rfl rfl)
theorem dX1_rawWrite_66 : decode cX1_rawWrite 66 = .ok (.ireturn, 1) := dk_172 (dk_at dksX1_rawWrite_2 22 rfl rfl)
abbrev cX1_isRaw : ByteArray := prog_1_method_75_code
def yX1_isRaw : MethodName := ⟨RX1, "isRaw", "(I)Z"⟩
def dkwX1_isRaw_0 : List UInt8 := [27, 3, 42, 180, 0, 102, 4, 100, 184, 0, 89, 172]
abbrev dktX1_isRaw_0 : List UInt8 := dkwX1_isRaw_0 ++ []
theorem dksX1_isRaw_0 : cX1_isRaw.data.toList.drop 0 = dktX1_isRaw_0 := by decide +kernel
theorem dX1_isRaw_0 : decode cX1_isRaw 0 = .ok (.iload_n 1, 1) := dk_27 (dk_at dksX1_isRaw_0 0 rfl rfl)
theorem dX1_isRaw_1 : decode cX1_isRaw 1 = .ok (.iconst 0, 1) := dk_3 (dk_at dksX1_isRaw_0 1 rfl rfl)
theorem dX1_isRaw_2 : decode cX1_isRaw 2 = .ok (.aload_n 0, 1) := dk_42 (dk_at dksX1_isRaw_0 2 rfl rfl)
theorem dX1_isRaw_3 : decode cX1_isRaw 3 = .ok (.getfield 102, 3) := dk_180 0 102 (dk_at dksX1_isRaw_0 3 rfl rfl)
theorem dX1_isRaw_6 : decode cX1_isRaw 6 = .ok (.iconst 1, 1) := dk_4 (dk_at dksX1_isRaw_0 6 rfl rfl)
theorem dX1_isRaw_7 : decode cX1_isRaw 7 = .ok (.isub, 1) := dk_100 (dk_at dksX1_isRaw_0 7 rfl rfl)
theorem dX1_isRaw_8 : decode cX1_isRaw 8 = .ok (.invokestatic 89, 3) := dk_184 0 89 (dk_at dksX1_isRaw_0 8 rfl rfl)
theorem dX1_isRaw_11 : decode cX1_isRaw 11 = .ok (.ireturn, 1) := dk_172 (dk_at dksX1_isRaw_0 11 rfl rfl)
abbrev cX1_rawChange : ByteArray := prog_1_method_77_code
def yX1_rawChange : MethodName := ⟨RX1, "rawChange", "(III)I"⟩
def dkwX1_rawChange_2 : List UInt8 := [96, 182, 1, 152, 54, 4, 42, 180, 0, 111, 180, 1, 148, 7, 27, 96, 28, 29, 182, 1, 163, 21, 4, 172]
abbrev dktX1_rawChange_2 : List UInt8 := dkwX1_rawChange_2 ++ []
def dkwX1_rawChange_1 : List UInt8 := [180, 1, 148, 182, 1, 157, 184, 0, 89, 154, 0, 6, 16, 253, 172, 42, 180, 0, 111, 180, 1, 148, 7, 27]
abbrev dktX1_rawChange_1 : List UInt8 := dkwX1_rawChange_1 ++ dktX1_rawChange_2
def dkwX1_rawChange_0 : List UInt8 := [42, 180, 0, 28, 154, 0, 6, 16, 254, 172, 42, 27, 182, 1, 145, 153, 0, 21, 28, 3, 42, 180, 0, 111]
abbrev dktX1_rawChange_0 : List UInt8 := dkwX1_rawChange_0 ++ dktX1_rawChange_1
theorem dksX1_rawChange_0 : cX1_rawChange.data.toList.drop 0 = dktX1_rawChange_0 := by decide +kernel
theorem dksX1_rawChange_1 : cX1_rawChange.data.toList.drop 24 = dktX1_rawChange_1 := dk_seg dksX1_rawChange_0 24 rfl rfl
theorem dksX1_rawChange_2 : cX1_rawChange.data.toList.drop 48 = dktX1_rawChange_2 := dk_seg dksX1_rawChange_1 24 rfl rfl
theorem dX1_rawChange_0 : decode cX1_rawChange 0 = .ok (.aload_n 0, 1) := dk_42 (dk_at dksX1_rawChange_0 0 rfl rfl)
theorem dX1_rawChange_1 : decode cX1_rawChange 1 = .ok (.getfield 28, 3) := dk_180 0 28 (dk_at dksX1_rawChange_0 1 rfl rfl)
theorem dX1_rawChange_4 : decode cX1_rawChange 4 = .ok (.ifCond .ne 6, 3) := dk_154 0 6 (dk_at dksX1_rawChange_0 4 rfl rfl)
theorem dX1_rawChange_7 : decode cX1_rawChange 7 = .ok (.bipush (-2), 2) := dk_16 254 (dk_at dksX1_rawChange_0 7 rfl rfl)
theorem dX1_rawChange_9 : decode cX1_rawChange 9 = .ok (.ireturn, 1) := dk_172 (dk_at dksX1_rawChange_0 9 rfl rfl)
theorem dX1_rawChange_10 : decode cX1_rawChange 10 = .ok (.aload_n 0, 1) := dk_42 (dk_at dksX1_rawChange_0 10 rfl rfl)
theorem dX1_rawChange_11 : decode cX1_rawChange 11 = .ok (.iload_n 1, 1) := dk_27 (dk_at dksX1_rawChange_0 11 rfl rfl)
theorem dX1_rawChange_12 : decode cX1_rawChange 12 = .ok (.invokevirtual 401, 3) := dk_182 1 145 (dk_at dksX1_rawChange_0 12 rfl rfl)
theorem dX1_rawChange_15 : decode cX1_rawChange 15 = .ok (.ifCond .eq 21, 3) := dk_153 0 21 (dk_at dksX1_rawChange_0 15 rfl rfl)
theorem dX1_rawChange_18 : decode cX1_rawChange 18 = .ok (.iload_n 2, 1) := dk_28 (dk_at dksX1_rawChange_0 18 rfl rfl)
theorem dX1_rawChange_19 : decode cX1_rawChange 19 = .ok (.iconst 0, 1) := dk_3 (dk_at dksX1_rawChange_0 19 rfl rfl)
theorem dX1_rawChange_20 : decode cX1_rawChange 20 = .ok (.aload_n 0, 1) := dk_42 (dk_at dksX1_rawChange_0 20 rfl rfl)
theorem dX1_rawChange_21 : decode cX1_rawChange 21 = .ok (.getfield 111, 3) := dk_180 0 111 (dk_at dksX1_rawChange_0 21 rfl rfl)
theorem dX1_rawChange_24 : decode cX1_rawChange 24 = .ok (.getfield 404, 3) := dk_180 1 148 (dk_at dksX1_rawChange_1 0 rfl rfl)
theorem dX1_rawChange_27 : decode cX1_rawChange 27 = .ok (.invokevirtual 413, 3) := dk_182 1 157 (dk_at dksX1_rawChange_1 3 rfl rfl)
theorem dX1_rawChange_30 : decode cX1_rawChange 30 = .ok (.invokestatic 89, 3) := dk_184 0 89 (dk_at dksX1_rawChange_1 6 rfl rfl)
theorem dX1_rawChange_33 : decode cX1_rawChange 33 = .ok (.ifCond .ne 6, 3) := dk_154 0 6 (dk_at dksX1_rawChange_1 9 rfl rfl)
theorem dX1_rawChange_36 : decode cX1_rawChange 36 = .ok (.bipush (-3), 2) := dk_16 253 (dk_at dksX1_rawChange_1 12 rfl rfl)
theorem dX1_rawChange_38 : decode cX1_rawChange 38 = .ok (.ireturn, 1) := dk_172 (dk_at dksX1_rawChange_1 14 rfl rfl)
theorem dX1_rawChange_39 : decode cX1_rawChange 39 = .ok (.aload_n 0, 1) := dk_42 (dk_at dksX1_rawChange_1 15 rfl rfl)
theorem dX1_rawChange_40 : decode cX1_rawChange 40 = .ok (.getfield 111, 3) := dk_180 0 111 (dk_at dksX1_rawChange_1 16 rfl rfl)
theorem dX1_rawChange_43 : decode cX1_rawChange 43 = .ok (.getfield 404, 3) := dk_180 1 148 (dk_at dksX1_rawChange_1 19 rfl rfl)
theorem dX1_rawChange_46 : decode cX1_rawChange 46 = .ok (.iconst 4, 1) := dk_7 (dk_at dksX1_rawChange_1 22 rfl rfl)
theorem dX1_rawChange_47 : decode cX1_rawChange 47 = .ok (.iload_n 1, 1) := dk_27 (dk_at dksX1_rawChange_1 23 rfl rfl)
theorem dX1_rawChange_48 : decode cX1_rawChange 48 = .ok (.iadd, 1) := dk_96 (dk_at dksX1_rawChange_2 0 rfl rfl)
theorem dX1_rawChange_49 : decode cX1_rawChange 49 = .ok (.invokevirtual 408, 3) := dk_182 1 152 (dk_at dksX1_rawChange_2 1 rfl rfl)
theorem dX1_rawChange_52 : decode cX1_rawChange 52 = .ok (.istore 4, 2) := dk_54 4 (dk_at dksX1_rawChange_2 4 rfl rfl)
theorem dX1_rawChange_54 : decode cX1_rawChange 54 = .ok (.aload_n 0, 1) := dk_42 (dk_at dksX1_rawChange_2 6 rfl rfl)
theorem dX1_rawChange_55 : decode cX1_rawChange 55 = .ok (.getfield 111, 3) := dk_180 0 111 (dk_at dksX1_rawChange_2 7 rfl rfl)
theorem dX1_rawChange_58 : decode cX1_rawChange 58 = .ok (.getfield 404, 3) := dk_180 1 148 (dk_at dksX1_rawChange_2 10 rfl rfl)
theorem dX1_rawChange_61 : decode cX1_rawChange 61 = .ok (.iconst 4, 1) := dk_7 (dk_at dksX1_rawChange_2 13 rfl rfl)
theorem dX1_rawChange_62 : decode cX1_rawChange 62 = .ok (.iload_n 1, 1) := dk_27 (dk_at dksX1_rawChange_2 14 rfl rfl)
theorem dX1_rawChange_63 : decode cX1_rawChange 63 = .ok (.iadd, 1) := dk_96 (dk_at dksX1_rawChange_2 15 rfl rfl)
theorem dX1_rawChange_64 : decode cX1_rawChange 64 = .ok (.iload_n 2, 1) := dk_28 (dk_at dksX1_rawChange_2 16 rfl rfl)
theorem dX1_rawChange_65 : decode cX1_rawChange 65 = .ok (.iload_n 3, 1) := dk_29 (dk_at dksX1_rawChange_2 17 rfl rfl)
theorem dX1_rawChange_66 : decode cX1_rawChange 66 = .ok (.invokevirtual 419, 3) := dk_182 1 163 (dk_at dksX1_rawChange_2 18 rfl rfl)
theorem dX1_rawChange_69 : decode cX1_rawChange 69 = .ok (.iload 4, 2) := dk_21 4 (dk_at dksX1_rawChange_2 21 rfl rfl)
theorem dX1_rawChange_71 : decode cX1_rawChange 71 = .ok (.ireturn, 1) := dk_172 (dk_at dksX1_rawChange_2 23 rfl rfl)
abbrev cX1_rawByte : ByteArray := prog_1_method_78_code
def yX1_rawByte : MethodName := ⟨RX1, "rawByte", "(II)I"⟩
def dkwX1_rawByte_3 : List UInt8 := [182, 1, 166, 42, 180, 0, 80, 28, 17, 0, 128, 112, 51, 17, 0, 255, 126, 172]
abbrev dktX1_rawByte_3 : List UInt8 := dkwX1_rawByte_3 ++ []
def dkwX1_rawByte_2 : List UInt8 := [2, 172, 42, 180, 0, 111, 180, 1, 148, 7, 27, 96, 28, 17, 0, 128, 108, 42, 180, 0, 80, 3]
abbrev dktX1_rawByte_2 : List UInt8 := dkwX1_rawByte_2 ++ dktX1_rawByte_3
def dkwX1_rawByte_1 : List UInt8 := [180, 0, 111, 180, 1, 148, 7, 27, 96, 182, 1, 152, 17, 0, 128, 104, 4, 100, 184, 0, 89, 154, 0, 5]
abbrev dktX1_rawByte_1 : List UInt8 := dkwX1_rawByte_1 ++ dktX1_rawByte_2
def dkwX1_rawByte_0 : List UInt8 := [42, 180, 0, 28, 154, 0, 6, 16, 254, 172, 42, 27, 182, 1, 145, 154, 0, 6, 16, 253, 172, 28, 3, 42]
abbrev dktX1_rawByte_0 : List UInt8 := dkwX1_rawByte_0 ++ dktX1_rawByte_1
theorem dksX1_rawByte_0 : cX1_rawByte.data.toList.drop 0 = dktX1_rawByte_0 := by decide +kernel
theorem dksX1_rawByte_1 : cX1_rawByte.data.toList.drop 24 = dktX1_rawByte_1 := dk_seg dksX1_rawByte_0 24 rfl rfl
theorem dksX1_rawByte_2 : cX1_rawByte.data.toList.drop 48 = dktX1_rawByte_2 := dk_seg dksX1_rawByte_1 24 rfl rfl
theorem dksX1_rawByte_3 : cX1_rawByte.data.toList.drop 70 = dktX1_rawByte_3 := dk_seg dksX1_rawByte_2 22 rfl rfl
theorem dX1_rawByte_0 : decode cX1_rawByte 0 = .ok (.aload_n 0, 1) := dk_42 (dk_at dksX1_rawByte_0 0 rfl rfl)
theorem dX1_rawByte_1 : decode cX1_rawByte 1 = .ok (.getfield 28, 3) := dk_180 0 28 (dk_at dksX1_rawByte_0 1 rfl rfl)
theorem dX1_rawByte_4 : decode cX1_rawByte 4 = .ok (.ifCond .ne 6, 3) := dk_154 0 6 (dk_at dksX1_rawByte_0 4 rfl rfl)
theorem dX1_rawByte_7 : decode cX1_rawByte 7 = .ok (.bipush (-2), 2) := dk_16 254 (dk_at dksX1_rawByte_0 7 rfl rfl)
theorem dX1_rawByte_9 : decode cX1_rawByte 9 = .ok (.ireturn, 1) := dk_172 (dk_at dksX1_rawByte_0 9 rfl rfl)
theorem dX1_rawByte_10 : decode cX1_rawByte 10 = .ok (.aload_n 0, 1) := dk_42 (dk_at dksX1_rawByte_0 10 rfl rfl)
theorem dX1_rawByte_11 : decode cX1_rawByte 11 = .ok (.iload_n 1, 1) := dk_27 (dk_at dksX1_rawByte_0 11 rfl rfl)
theorem dX1_rawByte_12 : decode cX1_rawByte 12 = .ok (.invokevirtual 401, 3) := dk_182 1 145 (dk_at dksX1_rawByte_0 12 rfl rfl)
theorem dX1_rawByte_15 : decode cX1_rawByte 15 = .ok (.ifCond .ne 6, 3) := dk_154 0 6 (dk_at dksX1_rawByte_0 15 rfl rfl)
theorem dX1_rawByte_18 : decode cX1_rawByte 18 = .ok (.bipush (-3), 2) := dk_16 253 (dk_at dksX1_rawByte_0 18 rfl rfl)
theorem dX1_rawByte_20 : decode cX1_rawByte 20 = .ok (.ireturn, 1) := dk_172 (dk_at dksX1_rawByte_0 20 rfl rfl)
theorem dX1_rawByte_21 : decode cX1_rawByte 21 = .ok (.iload_n 2, 1) := dk_28 (dk_at dksX1_rawByte_0 21 rfl rfl)
theorem dX1_rawByte_22 : decode cX1_rawByte 22 = .ok (.iconst 0, 1) := dk_3 (dk_at dksX1_rawByte_0 22 rfl rfl)
theorem dX1_rawByte_23 : decode cX1_rawByte 23 = .ok (.aload_n 0, 1) := dk_42 (dk_at dksX1_rawByte_0 23 rfl rfl)
theorem dX1_rawByte_24 : decode cX1_rawByte 24 = .ok (.getfield 111, 3) := dk_180 0 111 (dk_at dksX1_rawByte_1 0 rfl rfl)
theorem dX1_rawByte_27 : decode cX1_rawByte 27 = .ok (.getfield 404, 3) := dk_180 1 148 (dk_at dksX1_rawByte_1 3 rfl rfl)
theorem dX1_rawByte_30 : decode cX1_rawByte 30 = .ok (.iconst 4, 1) := dk_7 (dk_at dksX1_rawByte_1 6 rfl rfl)
theorem dX1_rawByte_31 : decode cX1_rawByte 31 = .ok (.iload_n 1, 1) := dk_27 (dk_at dksX1_rawByte_1 7 rfl rfl)
theorem dX1_rawByte_32 : decode cX1_rawByte 32 = .ok (.iadd, 1) := dk_96 (dk_at dksX1_rawByte_1 8 rfl rfl)
theorem dX1_rawByte_33 : decode cX1_rawByte 33 = .ok (.invokevirtual 408, 3) := dk_182 1 152 (dk_at dksX1_rawByte_1 9 rfl rfl)
theorem dX1_rawByte_36 : decode cX1_rawByte 36 = .ok (.sipush 128, 3) := dk_17 0 128 (dk_at dksX1_rawByte_1 12 rfl rfl)
theorem dX1_rawByte_39 : decode cX1_rawByte 39 = .ok (.imul, 1) := dk_104 (dk_at dksX1_rawByte_1 15 rfl rfl)
theorem dX1_rawByte_40 : decode cX1_rawByte 40 = .ok (.iconst 1, 1) := dk_4 (dk_at dksX1_rawByte_1 16 rfl rfl)
theorem dX1_rawByte_41 : decode cX1_rawByte 41 = .ok (.isub, 1) := dk_100 (dk_at dksX1_rawByte_1 17 rfl rfl)
theorem dX1_rawByte_42 : decode cX1_rawByte 42 = .ok (.invokestatic 89, 3) := dk_184 0 89 (dk_at dksX1_rawByte_1 18 rfl rfl)
theorem dX1_rawByte_45 : decode cX1_rawByte 45 = .ok (.ifCond .ne 5, 3) := dk_154 0 5 (dk_at dksX1_rawByte_1 21 rfl rfl)
theorem dX1_rawByte_48 : decode cX1_rawByte 48 = .ok (.iconst (-1), 1) := dk_2 (dk_at dksX1_rawByte_2 0 rfl rfl)
theorem dX1_rawByte_49 : decode cX1_rawByte 49 = .ok (.ireturn, 1) := dk_172 (dk_at dksX1_rawByte_2 1 rfl rfl)
theorem dX1_rawByte_50 : decode cX1_rawByte 50 = .ok (.aload_n 0, 1) := dk_42 (dk_at dksX1_rawByte_2 2 rfl rfl)
theorem dX1_rawByte_51 : decode cX1_rawByte 51 = .ok (.getfield 111, 3) := dk_180 0 111 (dk_at dksX1_rawByte_2 3 rfl rfl)
theorem dX1_rawByte_54 : decode cX1_rawByte 54 = .ok (.getfield 404, 3) := dk_180 1 148 (dk_at dksX1_rawByte_2 6 rfl rfl)
theorem dX1_rawByte_57 : decode cX1_rawByte 57 = .ok (.iconst 4, 1) := dk_7 (dk_at dksX1_rawByte_2 9 rfl rfl)
theorem dX1_rawByte_58 : decode cX1_rawByte 58 = .ok (.iload_n 1, 1) := dk_27 (dk_at dksX1_rawByte_2 10 rfl rfl)
theorem dX1_rawByte_59 : decode cX1_rawByte 59 = .ok (.iadd, 1) := dk_96 (dk_at dksX1_rawByte_2 11 rfl rfl)
theorem dX1_rawByte_60 : decode cX1_rawByte 60 = .ok (.iload_n 2, 1) := dk_28 (dk_at dksX1_rawByte_2 12 rfl rfl)
theorem dX1_rawByte_61 : decode cX1_rawByte 61 = .ok (.sipush 128, 3) := dk_17 0 128 (dk_at dksX1_rawByte_2 13 rfl rfl)
theorem dX1_rawByte_64 : decode cX1_rawByte 64 = .ok (.idiv, 1) := dk_108 (dk_at dksX1_rawByte_2 16 rfl rfl)
theorem dX1_rawByte_65 : decode cX1_rawByte 65 = .ok (.aload_n 0, 1) := dk_42 (dk_at dksX1_rawByte_2 17 rfl rfl)
theorem dX1_rawByte_66 : decode cX1_rawByte 66 = .ok (.getfield 80, 3) := dk_180 0 80 (dk_at dksX1_rawByte_2 18 rfl rfl)
theorem dX1_rawByte_69 : decode cX1_rawByte 69 = .ok (.iconst 0, 1) := dk_3 (dk_at dksX1_rawByte_2 21 rfl rfl)
theorem dX1_rawByte_70 : decode cX1_rawByte 70 = .ok (.invokevirtual 422, 3) := dk_182 1 166 (dk_at dksX1_rawByte_3 0 rfl rfl)
theorem dX1_rawByte_73 : decode cX1_rawByte 73 = .ok (.aload_n 0, 1) := dk_42 (dk_at dksX1_rawByte_3 3 rfl rfl)
theorem dX1_rawByte_74 : decode cX1_rawByte 74 = .ok (.getfield 80, 3) := dk_180 0 80 (dk_at dksX1_rawByte_3 4 rfl rfl)
theorem dX1_rawByte_77 : decode cX1_rawByte 77 = .ok (.iload_n 2, 1) := dk_28 (dk_at dksX1_rawByte_3 7 rfl rfl)
theorem dX1_rawByte_78 : decode cX1_rawByte 78 = .ok (.sipush 128, 3) := dk_17 0 128 (dk_at dksX1_rawByte_3 8 rfl rfl)
theorem dX1_rawByte_81 : decode cX1_rawByte 81 = .ok (.irem, 1) := dk_112 (dk_at dksX1_rawByte_3 11 rfl rfl)
theorem dX1_rawByte_82 : decode cX1_rawByte 82 = .ok (.baload, 1) := dk_51 (dk_at dksX1_rawByte_3 12 rfl rfl)
theorem dX1_rawByte_83 : decode cX1_rawByte 83 = .ok (.sipush 255, 3) := dk_17 0 255 (dk_at dksX1_rawByte_3 13 rfl rfl)
theorem dX1_rawByte_86 : decode cX1_rawByte 86 = .ok (.iand, 1) := dk_126 (dk_at dksX1_rawByte_3 16 rfl rfl)
theorem dX1_rawByte_87 : decode cX1_rawByte 87 = .ok (.ireturn, 1) := dk_172 (dk_at dksX1_rawByte_3 17 rfl rfl)
abbrev cX1_rawPages : ByteArray := prog_1_method_79_code
def yX1_rawPages : MethodName := ⟨RX1, "rawPages", "(I)I"⟩
def dkwX1_rawPages_1 : List UInt8 := [180, 1, 148, 7, 27, 96, 182, 1, 152, 167, 0, 5, 16, 253, 172]
abbrev dktX1_rawPages_1 : List UInt8 := dkwX1_rawPages_1 ++ []
def dkwX1_rawPages_0 : List UInt8 := [42, 180, 0, 28, 154, 0, 8, 16, 254, 167, 0, 29, 42, 27, 182, 1, 145, 153, 0, 19, 42, 180, 0, 111]
abbrev dktX1_rawPages_0 : List UInt8 := dkwX1_rawPages_0 ++ dktX1_rawPages_1
theorem dksX1_rawPages_0 : cX1_rawPages.data.toList.drop 0 = dktX1_rawPages_0 := by decide +kernel
theorem dksX1_rawPages_1 : cX1_rawPages.data.toList.drop 24 = dktX1_rawPages_1 := dk_seg dksX1_rawPages_0 24 rfl rfl
theorem dX1_rawPages_0 : decode cX1_rawPages 0 = .ok (.aload_n 0, 1) := dk_42 (dk_at dksX1_rawPages_0 0 rfl rfl)
theorem dX1_rawPages_1 : decode cX1_rawPages 1 = .ok (.getfield 28, 3) := dk_180 0 28 (dk_at dksX1_rawPages_0 1 rfl rfl)
theorem dX1_rawPages_4 : decode cX1_rawPages 4 = .ok (.ifCond .ne 8, 3) := dk_154 0 8 (dk_at dksX1_rawPages_0 4 rfl rfl)
theorem dX1_rawPages_7 : decode cX1_rawPages 7 = .ok (.bipush (-2), 2) := dk_16 254 (dk_at dksX1_rawPages_0 7 rfl rfl)
theorem dX1_rawPages_9 : decode cX1_rawPages 9 = .ok (.goto 29, 3) := dk_167 0 29 (dk_at dksX1_rawPages_0 9 rfl rfl)
theorem dX1_rawPages_12 : decode cX1_rawPages 12 = .ok (.aload_n 0, 1) := dk_42 (dk_at dksX1_rawPages_0 12 rfl rfl)
theorem dX1_rawPages_13 : decode cX1_rawPages 13 = .ok (.iload_n 1, 1) := dk_27 (dk_at dksX1_rawPages_0 13 rfl rfl)
theorem dX1_rawPages_14 : decode cX1_rawPages 14 = .ok (.invokevirtual 401, 3) := dk_182 1 145 (dk_at dksX1_rawPages_0 14 rfl rfl)
theorem dX1_rawPages_17 : decode cX1_rawPages 17 = .ok (.ifCond .eq 19, 3) := dk_153 0 19 (dk_at dksX1_rawPages_0 17 rfl rfl)
theorem dX1_rawPages_20 : decode cX1_rawPages 20 = .ok (.aload_n 0, 1) := dk_42 (dk_at dksX1_rawPages_0 20 rfl rfl)
theorem dX1_rawPages_21 : decode cX1_rawPages 21 = .ok (.getfield 111, 3) := dk_180 0 111 (dk_at dksX1_rawPages_0 21 rfl rfl)
theorem dX1_rawPages_24 : decode cX1_rawPages 24 = .ok (.getfield 404, 3) := dk_180 1 148 (dk_at dksX1_rawPages_1 0 rfl rfl)
theorem dX1_rawPages_27 : decode cX1_rawPages 27 = .ok (.iconst 4, 1) := dk_7 (dk_at dksX1_rawPages_1 3 rfl rfl)
theorem dX1_rawPages_28 : decode cX1_rawPages 28 = .ok (.iload_n 1, 1) := dk_27 (dk_at dksX1_rawPages_1 4 rfl rfl)
theorem dX1_rawPages_29 : decode cX1_rawPages 29 = .ok (.iadd, 1) := dk_96 (dk_at dksX1_rawPages_1 5 rfl rfl)
theorem dX1_rawPages_30 : decode cX1_rawPages 30 = .ok (.invokevirtual 408, 3) := dk_182 1 152 (dk_at dksX1_rawPages_1 6 rfl rfl)
theorem dX1_rawPages_33 : decode cX1_rawPages 33 = .ok (.goto 5, 3) := dk_167 0 5 (dk_at dksX1_rawPages_1 9 rfl rfl)
theorem dX1_rawPages_36 : decode cX1_rawPages 36 = .ok (.bipush (-3), 2) := dk_16 253 (dk_at dksX1_rawPages_1 12 rfl rfl)
theorem dX1_rawPages_38 : decode cX1_rawPages 38 = .ok (.ireturn, 1) := dk_172 (dk_at dksX1_rawPages_1 14 rfl rfl)
abbrev cX1_sync : ByteArray := prog_1_method_80_code
def yX1_sync : MethodName := ⟨RX1, "sync", "()I"⟩
def dkwX1_sync_1 : List UInt8 := [182, 1, 172, 27, 172]
abbrev dktX1_sync_1 : List UInt8 := dkwX1_sync_1 ++ []
def dkwX1_sync_0 : List UInt8 := [42, 180, 0, 28, 154, 0, 6, 16, 254, 172, 42, 180, 0, 111, 180, 1, 169, 60, 42, 180, 0, 111]
abbrev dktX1_sync_0 : List UInt8 := dkwX1_sync_0 ++ dktX1_sync_1
theorem dksX1_sync_0 : cX1_sync.data.toList.drop 0 = dktX1_sync_0 := by decide +kernel
theorem dksX1_sync_1 : cX1_sync.data.toList.drop 22 = dktX1_sync_1 := dk_seg dksX1_sync_0 22 rfl rfl
theorem dX1_sync_0 : decode cX1_sync 0 = .ok (.aload_n 0, 1) := dk_42 (dk_at dksX1_sync_0 0 rfl rfl)
theorem dX1_sync_1 : decode cX1_sync 1 = .ok (.getfield 28, 3) := dk_180 0 28 (dk_at dksX1_sync_0 1 rfl rfl)
theorem dX1_sync_4 : decode cX1_sync 4 = .ok (.ifCond .ne 6, 3) := dk_154 0 6 (dk_at dksX1_sync_0 4 rfl rfl)
theorem dX1_sync_7 : decode cX1_sync 7 = .ok (.bipush (-2), 2) := dk_16 254 (dk_at dksX1_sync_0 7 rfl rfl)
theorem dX1_sync_9 : decode cX1_sync 9 = .ok (.ireturn, 1) := dk_172 (dk_at dksX1_sync_0 9 rfl rfl)
theorem dX1_sync_10 : decode cX1_sync 10 = .ok (.aload_n 0, 1) := dk_42 (dk_at dksX1_sync_0 10 rfl rfl)
theorem dX1_sync_11 : decode cX1_sync 11 = .ok (.getfield 111, 3) := dk_180 0 111 (dk_at dksX1_sync_0 11 rfl rfl)
theorem dX1_sync_14 : decode cX1_sync 14 = .ok (.getfield 425, 3) := dk_180 1 169 (dk_at dksX1_sync_0 14 rfl rfl)
theorem dX1_sync_17 : decode cX1_sync 17 = .ok (.istore_n 1, 1) := dk_60 (dk_at dksX1_sync_0 17 rfl rfl)
theorem dX1_sync_18 : decode cX1_sync 18 = .ok (.aload_n 0, 1) := dk_42 (dk_at dksX1_sync_0 18 rfl rfl)
theorem dX1_sync_19 : decode cX1_sync 19 = .ok (.getfield 111, 3) := dk_180 0 111 (dk_at dksX1_sync_0 19 rfl rfl)
theorem dX1_sync_22 : decode cX1_sync 22 = .ok (.invokevirtual 428, 3) := dk_182 1 172 (dk_at dksX1_sync_1 0 rfl rfl)
theorem dX1_sync_25 : decode cX1_sync 25 = .ok (.iload_n 1, 1) := dk_27 (dk_at dksX1_sync_1 3 rfl rfl)
theorem dX1_sync_26 : decode cX1_sync 26 = .ok (.ireturn, 1) := dk_172 (dk_at dksX1_sync_1 4 rfl rfl)
abbrev cX1_waiting : ByteArray := prog_1_method_81_code
def yX1_waiting : MethodName := ⟨RX1, "waiting", "()I"⟩
def dkwX1_waiting_0 : List UInt8 := [42, 180, 0, 28, 153, 0, 13, 42, 180, 0, 111, 180, 1, 169, 167, 0, 5, 16, 254, 172]
abbrev dktX1_waiting_0 : List UInt8 := dkwX1_waiting_0 ++ []
theorem dksX1_waiting_0 : cX1_waiting.data.toList.drop 0 = dktX1_waiting_0 := by decide +kernel
theorem dX1_waiting_0 : decode cX1_waiting 0 = .ok (.aload_n 0, 1) := dk_42 (dk_at dksX1_waiting_0 0 rfl rfl)
theorem dX1_waiting_1 : decode cX1_waiting 1 = .ok (.getfield 28, 3) := dk_180 0 28 (dk_at dksX1_waiting_0 1 rfl rfl)
theorem dX1_waiting_4 : decode cX1_waiting 4 = .ok (.ifCond .eq 13, 3) := dk_153 0 13 (dk_at dksX1_waiting_0 4 rfl rfl)
theorem dX1_waiting_7 : decode cX1_waiting 7 = .ok (.aload_n 0, 1) := dk_42 (dk_at dksX1_waiting_0 7 rfl rfl)
theorem dX1_waiting_8 : decode cX1_waiting 8 = .ok (.getfield 111, 3) := dk_180 0 111 (dk_at dksX1_waiting_0 8 rfl rfl)
theorem dX1_waiting_11 : decode cX1_waiting 11 = .ok (.getfield 425, 3) := dk_180 1 169 (dk_at dksX1_waiting_0 11 rfl rfl)
theorem dX1_waiting_14 : decode cX1_waiting 14 = .ok (.goto 5, 3) := dk_167 0 5 (dk_at dksX1_waiting_0 14 rfl rfl)
theorem dX1_waiting_17 : decode cX1_waiting 17 = .ok (.bipush (-2), 2) := dk_16 254 (dk_at dksX1_waiting_0 17 rfl rfl)
theorem dX1_waiting_19 : decode cX1_waiting 19 = .ok (.ireturn, 1) := dk_172 (dk_at dksX1_waiting_0 19 rfl rfl)
abbrev cX1_cut : ByteArray := prog_1_method_82_code
def yX1_cut : MethodName := ⟨RX1, "cut", "()I"⟩
def dkwX1_cut_1 : List UInt8 := [182, 1, 175, 42, 180, 0, 32, 3, 184, 1, 178, 42, 3, 181, 1, 22, 42, 3, 181, 0, 28, 27, 172]
abbrev dktX1_cut_1 : List UInt8 := dkwX1_cut_1 ++ []
def dkwX1_cut_0 : List UInt8 := [42, 180, 0, 28, 154, 0, 6, 16, 254, 172, 42, 180, 0, 111, 180, 1, 169, 60, 42, 180, 0, 111]
abbrev dktX1_cut_0 : List UInt8 := dkwX1_cut_0 ++ dktX1_cut_1
theorem dksX1_cut_0 : cX1_cut.data.toList.drop 0 = dktX1_cut_0 := by decide +kernel
theorem dksX1_cut_1 : cX1_cut.data.toList.drop 22 = dktX1_cut_1 := dk_seg dksX1_cut_0 22 rfl rfl
theorem dX1_cut_0 : decode cX1_cut 0 = .ok (.aload_n 0, 1) := dk_42 (dk_at dksX1_cut_0 0 rfl rfl)
theorem dX1_cut_1 : decode cX1_cut 1 = .ok (.getfield 28, 3) := dk_180 0 28 (dk_at dksX1_cut_0 1 rfl rfl)
theorem dX1_cut_4 : decode cX1_cut 4 = .ok (.ifCond .ne 6, 3) := dk_154 0 6 (dk_at dksX1_cut_0 4 rfl rfl)
theorem dX1_cut_7 : decode cX1_cut 7 = .ok (.bipush (-2), 2) := dk_16 254 (dk_at dksX1_cut_0 7 rfl rfl)
theorem dX1_cut_9 : decode cX1_cut 9 = .ok (.ireturn, 1) := dk_172 (dk_at dksX1_cut_0 9 rfl rfl)
theorem dX1_cut_10 : decode cX1_cut 10 = .ok (.aload_n 0, 1) := dk_42 (dk_at dksX1_cut_0 10 rfl rfl)
theorem dX1_cut_11 : decode cX1_cut 11 = .ok (.getfield 111, 3) := dk_180 0 111 (dk_at dksX1_cut_0 11 rfl rfl)
theorem dX1_cut_14 : decode cX1_cut 14 = .ok (.getfield 425, 3) := dk_180 1 169 (dk_at dksX1_cut_0 14 rfl rfl)
theorem dX1_cut_17 : decode cX1_cut 17 = .ok (.istore_n 1, 1) := dk_60 (dk_at dksX1_cut_0 17 rfl rfl)
theorem dX1_cut_18 : decode cX1_cut 18 = .ok (.aload_n 0, 1) := dk_42 (dk_at dksX1_cut_0 18 rfl rfl)
theorem dX1_cut_19 : decode cX1_cut 19 = .ok (.getfield 111, 3) := dk_180 0 111 (dk_at dksX1_cut_0 19 rfl rfl)
theorem dX1_cut_22 : decode cX1_cut 22 = .ok (.invokevirtual 431, 3) := dk_182 1 175 (dk_at dksX1_cut_1 0 rfl rfl)
theorem dX1_cut_25 : decode cX1_cut 25 = .ok (.aload_n 0, 1) := dk_42 (dk_at dksX1_cut_1 3 rfl rfl)
theorem dX1_cut_26 : decode cX1_cut 26 = .ok (.getfield 32, 3) := dk_180 0 32 (dk_at dksX1_cut_1 4 rfl rfl)
theorem dX1_cut_29 : decode cX1_cut 29 = .ok (.iconst 0, 1) := dk_3 (dk_at dksX1_cut_1 7 rfl rfl)
theorem dX1_cut_30 : decode cX1_cut 30 = .ok (.invokestatic 434, 3) := dk_184 1 178 (dk_at dksX1_cut_1 8 rfl rfl)
theorem dX1_cut_33 : decode cX1_cut 33 = .ok (.aload_n 0, 1) := dk_42 (dk_at dksX1_cut_1 11 rfl rfl)
theorem dX1_cut_34 : decode cX1_cut 34 = .ok (.iconst 0, 1) := dk_3 (dk_at dksX1_cut_1 12 rfl rfl)
theorem dX1_cut_35 : decode cX1_cut 35 = .ok (.putfield 278, 3) := dk_181 1 22 (dk_at dksX1_cut_1 13 rfl rfl)
theorem dX1_cut_38 : decode cX1_cut 38 = .ok (.aload_n 0, 1) := dk_42 (dk_at dksX1_cut_1 16 rfl rfl)
theorem dX1_cut_39 : decode cX1_cut 39 = .ok (.iconst 0, 1) := dk_3 (dk_at dksX1_cut_1 17 rfl rfl)
theorem dX1_cut_40 : decode cX1_cut 40 = .ok (.putfield 28, 3) := dk_181 0 28 (dk_at dksX1_cut_1 18 rfl rfl)
theorem dX1_cut_43 : decode cX1_cut 43 = .ok (.iload_n 1, 1) := dk_27 (dk_at dksX1_cut_1 21 rfl rfl)
theorem dX1_cut_44 : decode cX1_cut 44 = .ok (.ireturn, 1) := dk_172 (dk_at dksX1_cut_1 22 rfl rfl)
abbrev cX1_on : ByteArray := prog_1_method_83_code
def yX1_on : MethodName := ⟨RX1, "on", "()I"⟩
def dkwX1_on_3 : List UInt8 := [180, 0, 111, 182, 1, 192, 42, 182, 0, 127, 27, 172]
abbrev dktX1_on_3 : List UInt8 := dkwX1_on_3 ++ []
def dkwX1_on_2 : List UInt8 := [180, 1, 186, 28, 46, 182, 1, 189, 132, 2, 1, 167, 255, 232, 42, 180, 0, 111, 3, 181, 1, 183, 42]
abbrev dktX1_on_2 : List UInt8 := dkwX1_on_2 ++ dktX1_on_3
def dkwX1_on_1 : List UInt8 := [180, 0, 111, 180, 1, 183, 60, 3, 61, 28, 27, 162, 0, 25, 42, 180, 0, 111, 42, 180, 0, 111]
abbrev dktX1_on_1 : List UInt8 := dkwX1_on_1 ++ dktX1_on_2
def dkwX1_on_0 : List UInt8 := [42, 180, 0, 28, 153, 0, 5, 2, 172, 42, 4, 181, 0, 28, 42, 180, 0, 111, 182, 1, 181, 42]
abbrev dktX1_on_0 : List UInt8 := dkwX1_on_0 ++ dktX1_on_1
theorem dksX1_on_0 : cX1_on.data.toList.drop 0 = dktX1_on_0 := by decide +kernel
theorem dksX1_on_1 : cX1_on.data.toList.drop 22 = dktX1_on_1 := dk_seg dksX1_on_0 22 rfl rfl
theorem dksX1_on_2 : cX1_on.data.toList.drop 44 = dktX1_on_2 := dk_seg dksX1_on_1 22 rfl rfl
theorem dksX1_on_3 : cX1_on.data.toList.drop 67 = dktX1_on_3 := dk_seg dksX1_on_2 23 rfl rfl
theorem dX1_on_0 : decode cX1_on 0 = .ok (.aload_n 0, 1) := dk_42 (dk_at dksX1_on_0 0 rfl rfl)
theorem dX1_on_1 : decode cX1_on 1 = .ok (.getfield 28, 3) := dk_180 0 28 (dk_at dksX1_on_0 1 rfl rfl)
theorem dX1_on_4 : decode cX1_on 4 = .ok (.ifCond .eq 5, 3) := dk_153 0 5 (dk_at dksX1_on_0 4 rfl rfl)
theorem dX1_on_7 : decode cX1_on 7 = .ok (.iconst (-1), 1) := dk_2 (dk_at dksX1_on_0 7 rfl rfl)
theorem dX1_on_8 : decode cX1_on 8 = .ok (.ireturn, 1) := dk_172 (dk_at dksX1_on_0 8 rfl rfl)
theorem dX1_on_9 : decode cX1_on 9 = .ok (.aload_n 0, 1) := dk_42 (dk_at dksX1_on_0 9 rfl rfl)
theorem dX1_on_10 : decode cX1_on 10 = .ok (.iconst 1, 1) := dk_4 (dk_at dksX1_on_0 10 rfl rfl)
theorem dX1_on_11 : decode cX1_on 11 = .ok (.putfield 28, 3) := dk_181 0 28 (dk_at dksX1_on_0 11 rfl rfl)
theorem dX1_on_14 : decode cX1_on 14 = .ok (.aload_n 0, 1) := dk_42 (dk_at dksX1_on_0 14 rfl rfl)
theorem dX1_on_15 : decode cX1_on 15 = .ok (.getfield 111, 3) := dk_180 0 111 (dk_at dksX1_on_0 15 rfl rfl)
theorem dX1_on_18 : decode cX1_on 18 = .ok (.invokevirtual 437, 3) := dk_182 1 181 (dk_at dksX1_on_0 18 rfl rfl)
theorem dX1_on_21 : decode cX1_on 21 = .ok (.aload_n 0, 1) := dk_42 (dk_at dksX1_on_0 21 rfl rfl)
theorem dX1_on_22 : decode cX1_on 22 = .ok (.getfield 111, 3) := dk_180 0 111 (dk_at dksX1_on_1 0 rfl rfl)
theorem dX1_on_25 : decode cX1_on 25 = .ok (.getfield 439, 3) := dk_180 1 183 (dk_at dksX1_on_1 3 rfl rfl)
theorem dX1_on_28 : decode cX1_on 28 = .ok (.istore_n 1, 1) := dk_60 (dk_at dksX1_on_1 6 rfl rfl)
theorem dX1_on_29 : decode cX1_on 29 = .ok (.iconst 0, 1) := dk_3 (dk_at dksX1_on_1 7 rfl rfl)
theorem dX1_on_30 : decode cX1_on 30 = .ok (.istore_n 2, 1) := dk_61 (dk_at dksX1_on_1 8 rfl rfl)
theorem dX1_on_31 : decode cX1_on 31 = .ok (.iload_n 2, 1) := dk_28 (dk_at dksX1_on_1 9 rfl rfl)
theorem dX1_on_32 : decode cX1_on 32 = .ok (.iload_n 1, 1) := dk_27 (dk_at dksX1_on_1 10 rfl rfl)
theorem dX1_on_33 : decode cX1_on 33 = .ok (.if_icmp .ge 25, 3) := dk_162 0 25 (dk_at dksX1_on_1 11 rfl rfl)
theorem dX1_on_36 : decode cX1_on 36 = .ok (.aload_n 0, 1) := dk_42 (dk_at dksX1_on_1 14 rfl rfl)
theorem dX1_on_37 : decode cX1_on 37 = .ok (.getfield 111, 3) := dk_180 0 111 (dk_at dksX1_on_1 15 rfl rfl)
theorem dX1_on_40 : decode cX1_on 40 = .ok (.aload_n 0, 1) := dk_42 (dk_at dksX1_on_1 18 rfl rfl)
theorem dX1_on_41 : decode cX1_on 41 = .ok (.getfield 111, 3) := dk_180 0 111 (dk_at dksX1_on_1 19 rfl rfl)
theorem dX1_on_44 : decode cX1_on 44 = .ok (.getfield 442, 3) := dk_180 1 186 (dk_at dksX1_on_2 0 rfl rfl)
theorem dX1_on_47 : decode cX1_on 47 = .ok (.iload_n 2, 1) := dk_28 (dk_at dksX1_on_2 3 rfl rfl)
theorem dX1_on_48 : decode cX1_on 48 = .ok (.iaload, 1) := dk_46 (dk_at dksX1_on_2 4 rfl rfl)
theorem dX1_on_49 : decode cX1_on 49 = .ok (.invokevirtual 445, 3) := dk_182 1 189 (dk_at dksX1_on_2 5 rfl rfl)
theorem dX1_on_52 : decode cX1_on 52 = .ok (.iinc 2 1, 3) := dk_132 2 1 (dk_at dksX1_on_2 8 rfl rfl)
theorem dX1_on_55 : decode cX1_on 55 = .ok (.goto (-24), 3) := dk_167 255 232 (dk_at dksX1_on_2 11 rfl rfl)
theorem dX1_on_58 : decode cX1_on 58 = .ok (.aload_n 0, 1) := dk_42 (dk_at dksX1_on_2 14 rfl rfl)
theorem dX1_on_59 : decode cX1_on 59 = .ok (.getfield 111, 3) := dk_180 0 111 (dk_at dksX1_on_2 15 rfl rfl)
theorem dX1_on_62 : decode cX1_on 62 = .ok (.iconst 0, 1) := dk_3 (dk_at dksX1_on_2 18 rfl rfl)
theorem dX1_on_63 : decode cX1_on 63 = .ok (.putfield 439, 3) := dk_181 1 183 (dk_at dksX1_on_2 19 rfl rfl)
theorem dX1_on_66 : decode cX1_on 66 = .ok (.aload_n 0, 1) := dk_42 (dk_at dksX1_on_2 22 rfl rfl)
theorem dX1_on_67 : decode cX1_on 67 = .ok (.getfield 111, 3) := dk_180 0 111 (dk_at dksX1_on_3 0 rfl rfl)
theorem dX1_on_70 : decode cX1_on 70 = .ok (.invokevirtual 448, 3) := dk_182 1 192 (dk_at dksX1_on_3 3 rfl rfl)
theorem dX1_on_73 : decode cX1_on 73 = .ok (.aload_n 0, 1) := dk_42 (dk_at dksX1_on_3 6 rfl rfl)
theorem dX1_on_74 : decode cX1_on 74 = .ok (.invokevirtual 127, 3) := dk_182 0 127 (dk_at dksX1_on_3 7 rfl rfl)
theorem dX1_on_77 : decode cX1_on 77 = .ok (.iload_n 1, 1) := dk_27 (dk_at dksX1_on_3 10 rfl rfl)
theorem dX1_on_78 : decode cX1_on 78 = .ok (.ireturn, 1) := dk_172 (dk_at dksX1_on_3 11 rfl rfl)
abbrev cX1_work : ByteArray := prog_1_method_84_code
def yX1_work : MethodName := ⟨RX1, "work", "()V"⟩
def dkwX1_work_0 : List UInt8 := [42, 180, 0, 28, 153, 0, 10, 42, 180, 0, 111, 182, 1, 195, 177]
abbrev dktX1_work_0 : List UInt8 := dkwX1_work_0 ++ []
theorem dksX1_work_0 : cX1_work.data.toList.drop 0 = dktX1_work_0 := by decide +kernel
theorem dX1_work_0 : decode cX1_work 0 = .ok (.aload_n 0, 1) := dk_42 (dk_at dksX1_work_0 0 rfl rfl)
theorem dX1_work_1 : decode cX1_work 1 = .ok (.getfield 28, 3) := dk_180 0 28 (dk_at dksX1_work_0 1 rfl rfl)
theorem dX1_work_4 : decode cX1_work 4 = .ok (.ifCond .eq 10, 3) := dk_153 0 10 (dk_at dksX1_work_0 4 rfl rfl)
theorem dX1_work_7 : decode cX1_work 7 = .ok (.aload_n 0, 1) := dk_42 (dk_at dksX1_work_0 7 rfl rfl)
theorem dX1_work_8 : decode cX1_work 8 = .ok (.getfield 111, 3) := dk_180 0 111 (dk_at dksX1_work_0 8 rfl rfl)
theorem dX1_work_11 : decode cX1_work 11 = .ok (.invokevirtual 451, 3) := dk_182 1 195 (dk_at dksX1_work_0 11 rfl rfl)
theorem dX1_work_14 : decode cX1_work 14 = .ok (.return_, 1) := dk_177 (dk_at dksX1_work_0 14 rfl rfl)
abbrev cX1_fail : ByteArray := prog_1_method_85_code
def yX1_fail : MethodName := ⟨RX1, "fail", "(I)Z"⟩
def dkwX1_fail_2 : List UInt8 := [172]
abbrev dktX1_fail_2 : List UInt8 := dkwX1_fail_2 ++ []
def dkwX1_fail_1 : List UInt8 := [160, 0, 5, 3, 172, 42, 89, 180, 1, 198, 4, 96, 181, 1, 198, 42, 180, 0, 98, 27, 182, 1, 201, 4]
abbrev dktX1_fail_1 : List UInt8 := dkwX1_fail_1 ++ dktX1_fail_2
def dkwX1_fail_0 : List UInt8 := [42, 180, 0, 28, 153, 0, 22, 27, 4, 17, 3, 232, 184, 0, 89, 153, 0, 11, 42, 180, 1, 198, 7]
abbrev dktX1_fail_0 : List UInt8 := dkwX1_fail_0 ++ dktX1_fail_1
theorem dksX1_fail_0 : cX1_fail.data.toList.drop 0 = dktX1_fail_0 := by decide +kernel
theorem dksX1_fail_1 : cX1_fail.data.toList.drop 23 = dktX1_fail_1 := dk_seg dksX1_fail_0 23 rfl rfl
theorem dksX1_fail_2 : cX1_fail.data.toList.drop 47 = dktX1_fail_2 := dk_seg dksX1_fail_1 24 rfl rfl
theorem dX1_fail_0 : decode cX1_fail 0 = .ok (.aload_n 0, 1) := dk_42 (dk_at dksX1_fail_0 0 rfl rfl)
theorem dX1_fail_1 : decode cX1_fail 1 = .ok (.getfield 28, 3) := dk_180 0 28 (dk_at dksX1_fail_0 1 rfl rfl)
theorem dX1_fail_4 : decode cX1_fail 4 = .ok (.ifCond .eq 22, 3) := dk_153 0 22 (dk_at dksX1_fail_0 4 rfl rfl)
theorem dX1_fail_7 : decode cX1_fail 7 = .ok (.iload_n 1, 1) := dk_27 (dk_at dksX1_fail_0 7 rfl rfl)
theorem dX1_fail_8 : decode cX1_fail 8 = .ok (.iconst 1, 1) := dk_4 (dk_at dksX1_fail_0 8 rfl rfl)
theorem dX1_fail_9 : decode cX1_fail 9 = .ok (.sipush 1000, 3) := dk_17 3 232 (dk_at dksX1_fail_0 9 rfl rfl)
theorem dX1_fail_12 : decode cX1_fail 12 = .ok (.invokestatic 89, 3) := dk_184 0 89 (dk_at dksX1_fail_0 12 rfl rfl)
theorem dX1_fail_15 : decode cX1_fail 15 = .ok (.ifCond .eq 11, 3) := dk_153 0 11 (dk_at dksX1_fail_0 15 rfl rfl)
theorem dX1_fail_18 : decode cX1_fail 18 = .ok (.aload_n 0, 1) := dk_42 (dk_at dksX1_fail_0 18 rfl rfl)
theorem dX1_fail_19 : decode cX1_fail 19 = .ok (.getfield 454, 3) := dk_180 1 198 (dk_at dksX1_fail_0 19 rfl rfl)
theorem dX1_fail_22 : decode cX1_fail 22 = .ok (.iconst 4, 1) := dk_7 (dk_at dksX1_fail_0 22 rfl rfl)
theorem dX1_fail_23 : decode cX1_fail 23 = .ok (.if_icmp .ne 5, 3) := dk_160 0 5 (dk_at dksX1_fail_1 0 rfl rfl)
theorem dX1_fail_26 : decode cX1_fail 26 = .ok (.iconst 0, 1) := dk_3 (dk_at dksX1_fail_1 3 rfl rfl)
theorem dX1_fail_27 : decode cX1_fail 27 = .ok (.ireturn, 1) := dk_172 (dk_at dksX1_fail_1 4 rfl rfl)
theorem dX1_fail_28 : decode cX1_fail 28 = .ok (.aload_n 0, 1) := dk_42 (dk_at dksX1_fail_1 5 rfl rfl)
theorem dX1_fail_29 : decode cX1_fail 29 = .ok (.dup, 1) := dk_89 (dk_at dksX1_fail_1 6 rfl rfl)
theorem dX1_fail_30 : decode cX1_fail 30 = .ok (.getfield 454, 3) := dk_180 1 198 (dk_at dksX1_fail_1 7 rfl rfl)
theorem dX1_fail_33 : decode cX1_fail 33 = .ok (.iconst 1, 1) := dk_4 (dk_at dksX1_fail_1 10 rfl rfl)
theorem dX1_fail_34 : decode cX1_fail 34 = .ok (.iadd, 1) := dk_96 (dk_at dksX1_fail_1 11 rfl rfl)
theorem dX1_fail_35 : decode cX1_fail 35 = .ok (.putfield 454, 3) := dk_181 1 198 (dk_at dksX1_fail_1 12 rfl rfl)
theorem dX1_fail_38 : decode cX1_fail 38 = .ok (.aload_n 0, 1) := dk_42 (dk_at dksX1_fail_1 15 rfl rfl)
theorem dX1_fail_39 : decode cX1_fail 39 = .ok (.getfield 98, 3) := dk_180 0 98 (dk_at dksX1_fail_1 16 rfl rfl)
theorem dX1_fail_42 : decode cX1_fail 42 = .ok (.iload_n 1, 1) := dk_27 (dk_at dksX1_fail_1 19 rfl rfl)
theorem dX1_fail_43 : decode cX1_fail 43 = .ok (.invokevirtual 457, 3) := dk_182 1 201 (dk_at dksX1_fail_1 20 rfl rfl)
theorem dX1_fail_46 : decode cX1_fail 46 = .ok (.iconst 1, 1) := dk_4 (dk_at dksX1_fail_1 23 rfl rfl)
theorem dX1_fail_47 : decode cX1_fail 47 = .ok (.ireturn, 1) := dk_172 (dk_at dksX1_fail_2 0 rfl rfl)
abbrev cX1_flip : ByteArray := prog_1_method_86_code
def yX1_flip : MethodName := ⟨RX1, "flip", "(I)Z"⟩
def dkwX1_flip_1 : List UInt8 := [89, 180, 1, 204, 4, 96, 181, 1, 204, 42, 180, 0, 98, 27, 182, 1, 207, 4, 172]
abbrev dktX1_flip_1 : List UInt8 := dkwX1_flip_1 ++ []
def dkwX1_flip_0 : List UInt8 := [42, 180, 0, 28, 153, 0, 17, 27, 155, 0, 13, 42, 180, 1, 204, 17, 0, 200, 160, 0, 5, 3, 172, 42]
abbrev dktX1_flip_0 : List UInt8 := dkwX1_flip_0 ++ dktX1_flip_1
theorem dksX1_flip_0 : cX1_flip.data.toList.drop 0 = dktX1_flip_0 := by decide +kernel
theorem dksX1_flip_1 : cX1_flip.data.toList.drop 24 = dktX1_flip_1 := dk_seg dksX1_flip_0 24 rfl rfl
theorem dX1_flip_0 : decode cX1_flip 0 = .ok (.aload_n 0, 1) := dk_42 (dk_at dksX1_flip_0 0 rfl rfl)
theorem dX1_flip_1 : decode cX1_flip 1 = .ok (.getfield 28, 3) := dk_180 0 28 (dk_at dksX1_flip_0 1 rfl rfl)
theorem dX1_flip_4 : decode cX1_flip 4 = .ok (.ifCond .eq 17, 3) := dk_153 0 17 (dk_at dksX1_flip_0 4 rfl rfl)
theorem dX1_flip_7 : decode cX1_flip 7 = .ok (.iload_n 1, 1) := dk_27 (dk_at dksX1_flip_0 7 rfl rfl)
theorem dX1_flip_8 : decode cX1_flip 8 = .ok (.ifCond .lt 13, 3) := dk_155 0 13 (dk_at dksX1_flip_0 8 rfl rfl)
theorem dX1_flip_11 : decode cX1_flip 11 = .ok (.aload_n 0, 1) := dk_42 (dk_at dksX1_flip_0 11 rfl rfl)
theorem dX1_flip_12 : decode cX1_flip 12 = .ok (.getfield 460, 3) := dk_180 1 204 (dk_at dksX1_flip_0 12 rfl rfl)
theorem dX1_flip_15 : decode cX1_flip 15 = .ok (.sipush 200, 3) := dk_17 0 200 (dk_at dksX1_flip_0 15 rfl rfl)
theorem dX1_flip_18 : decode cX1_flip 18 = .ok (.if_icmp .ne 5, 3) := dk_160 0 5 (dk_at dksX1_flip_0 18 rfl rfl)
theorem dX1_flip_21 : decode cX1_flip 21 = .ok (.iconst 0, 1) := dk_3 (dk_at dksX1_flip_0 21 rfl rfl)
theorem dX1_flip_22 : decode cX1_flip 22 = .ok (.ireturn, 1) := dk_172 (dk_at dksX1_flip_0 22 rfl rfl)
theorem dX1_flip_23 : decode cX1_flip 23 = .ok (.aload_n 0, 1) := dk_42 (dk_at dksX1_flip_0 23 rfl rfl)
theorem dX1_flip_24 : decode cX1_flip 24 = .ok (.dup, 1) := dk_89 (dk_at dksX1_flip_1 0 rfl rfl)
theorem dX1_flip_25 : decode cX1_flip 25 = .ok (.getfield 460, 3) := dk_180 1 204 (dk_at dksX1_flip_1 1 rfl rfl)
theorem dX1_flip_28 : decode cX1_flip 28 = .ok (.iconst 1, 1) := dk_4 (dk_at dksX1_flip_1 4 rfl rfl)
theorem dX1_flip_29 : decode cX1_flip 29 = .ok (.iadd, 1) := dk_96 (dk_at dksX1_flip_1 5 rfl rfl)
theorem dX1_flip_30 : decode cX1_flip 30 = .ok (.putfield 460, 3) := dk_181 1 204 (dk_at dksX1_flip_1 6 rfl rfl)
theorem dX1_flip_33 : decode cX1_flip 33 = .ok (.aload_n 0, 1) := dk_42 (dk_at dksX1_flip_1 9 rfl rfl)
theorem dX1_flip_34 : decode cX1_flip 34 = .ok (.getfield 98, 3) := dk_180 0 98 (dk_at dksX1_flip_1 10 rfl rfl)
theorem dX1_flip_37 : decode cX1_flip 37 = .ok (.iload_n 1, 1) := dk_27 (dk_at dksX1_flip_1 13 rfl rfl)
theorem dX1_flip_38 : decode cX1_flip 38 = .ok (.invokevirtual 463, 3) := dk_182 1 207 (dk_at dksX1_flip_1 14 rfl rfl)
theorem dX1_flip_41 : decode cX1_flip 41 = .ok (.iconst 1, 1) := dk_4 (dk_at dksX1_flip_1 17 rfl rfl)
theorem dX1_flip_42 : decode cX1_flip 42 = .ok (.ireturn, 1) := dk_172 (dk_at dksX1_flip_1 18 rfl rfl)
abbrev cX1_told : ByteArray := prog_1_method_87_code
def yX1_told : MethodName := ⟨RX1, "told", "(I)I"⟩
def dkwX1_told_4 : List UInt8 := [180, 1, 22, 172, 16, 253, 172]
abbrev dktX1_told_4 : List UInt8 := dkwX1_told_4 ++ []
def dkwX1_told_3 : List UInt8 := [182, 1, 213, 172, 42, 180, 0, 111, 180, 1, 36, 172, 42, 180, 1, 198, 172, 42, 180, 1, 204, 172, 42]
abbrev dktX1_told_3 : List UInt8 := dkwX1_told_3 ++ dktX1_told_4
def dkwX1_told_2 : List UInt8 := [42, 180, 0, 130, 172, 42, 180, 0, 121, 172, 42, 180, 0, 133, 172, 42, 182, 1, 210, 172, 42, 180, 0, 111]
abbrev dktX1_told_2 : List UInt8 := dkwX1_told_2 ++ dktX1_told_3
def dkwX1_told_1 : List UInt8 := [170, 0, 0, 0, 100, 0, 0, 0, 0, 0, 0, 0, 8, 0, 0, 0, 49, 0, 0, 0, 54, 0, 0, 0, 59, 0, 0, 0, 64, 0, 0, 0, 69, 0, 0, 0, 77, 0, 0, 0, 85, 0, 0, 0, 90, 0, 0, 0, 95]
abbrev dktX1_told_1 : List UInt8 := dkwX1_told_1 ++ dktX1_told_2
def dkwX1_told_0 : List UInt8 := [42, 180, 0, 28, 154, 0, 6, 16, 254, 172, 27]
abbrev dktX1_told_0 : List UInt8 := dkwX1_told_0 ++ dktX1_told_1
theorem dksX1_told_0 : cX1_told.data.toList.drop 0 = dktX1_told_0 := by decide +kernel
theorem dksX1_told_1 : cX1_told.data.toList.drop 11 = dktX1_told_1 := dk_seg dksX1_told_0 11 rfl rfl
theorem dksX1_told_2 : cX1_told.data.toList.drop 60 = dktX1_told_2 := dk_seg dksX1_told_1 49 rfl rfl
theorem dksX1_told_3 : cX1_told.data.toList.drop 84 = dktX1_told_3 := dk_seg dksX1_told_2 24 rfl rfl
theorem dksX1_told_4 : cX1_told.data.toList.drop 107 = dktX1_told_4 := dk_seg dksX1_told_3 23 rfl rfl
theorem dX1_told_0 : decode cX1_told 0 = .ok (.aload_n 0, 1) := dk_42 (dk_at dksX1_told_0 0 rfl rfl)
theorem dX1_told_1 : decode cX1_told 1 = .ok (.getfield 28, 3) := dk_180 0 28 (dk_at dksX1_told_0 1 rfl rfl)
theorem dX1_told_4 : decode cX1_told 4 = .ok (.ifCond .ne 6, 3) := dk_154 0 6 (dk_at dksX1_told_0 4 rfl rfl)
theorem dX1_told_7 : decode cX1_told 7 = .ok (.bipush (-2), 2) := dk_16 254 (dk_at dksX1_told_0 7 rfl rfl)
theorem dX1_told_9 : decode cX1_told 9 = .ok (.ireturn, 1) := dk_172 (dk_at dksX1_told_0 9 rfl rfl)
theorem dX1_told_10 : decode cX1_told 10 = .ok (.iload_n 1, 1) := dk_27 (dk_at dksX1_told_0 10 rfl rfl)
theorem dX1_told_11 : decode cX1_told 11 = .ok (.tableswitch 100 0 8 #[49, 54, 59, 64, 69, 77, 85, 90, 95], 49) := by decide +kernel
theorem dX1_told_60 : decode cX1_told 60 = .ok (.aload_n 0, 1) := dk_42 (dk_at dksX1_told_2 0 rfl rfl)
theorem dX1_told_61 : decode cX1_told 61 = .ok (.getfield 130, 3) := dk_180 0 130 (dk_at dksX1_told_2 1 rfl rfl)
theorem dX1_told_64 : decode cX1_told 64 = .ok (.ireturn, 1) := dk_172 (dk_at dksX1_told_2 4 rfl rfl)
theorem dX1_told_65 : decode cX1_told 65 = .ok (.aload_n 0, 1) := dk_42 (dk_at dksX1_told_2 5 rfl rfl)
theorem dX1_told_66 : decode cX1_told 66 = .ok (.getfield 121, 3) := dk_180 0 121 (dk_at dksX1_told_2 6 rfl rfl)
theorem dX1_told_69 : decode cX1_told 69 = .ok (.ireturn, 1) := dk_172 (dk_at dksX1_told_2 9 rfl rfl)
theorem dX1_told_70 : decode cX1_told 70 = .ok (.aload_n 0, 1) := dk_42 (dk_at dksX1_told_2 10 rfl rfl)
theorem dX1_told_71 : decode cX1_told 71 = .ok (.getfield 133, 3) := dk_180 0 133 (dk_at dksX1_told_2 11 rfl rfl)
theorem dX1_told_74 : decode cX1_told 74 = .ok (.ireturn, 1) := dk_172 (dk_at dksX1_told_2 14 rfl rfl)
theorem dX1_told_75 : decode cX1_told 75 = .ok (.aload_n 0, 1) := dk_42 (dk_at dksX1_told_2 15 rfl rfl)
theorem dX1_told_76 : decode cX1_told 76 = .ok (.invokevirtual 466, 3) := dk_182 1 210 (dk_at dksX1_told_2 16 rfl rfl)
theorem dX1_told_79 : decode cX1_told 79 = .ok (.ireturn, 1) := dk_172 (dk_at dksX1_told_2 19 rfl rfl)
theorem dX1_told_80 : decode cX1_told 80 = .ok (.aload_n 0, 1) := dk_42 (dk_at dksX1_told_2 20 rfl rfl)
theorem dX1_told_81 : decode cX1_told 81 = .ok (.getfield 111, 3) := dk_180 0 111 (dk_at dksX1_told_2 21 rfl rfl)
theorem dX1_told_84 : decode cX1_told 84 = .ok (.invokevirtual 469, 3) := dk_182 1 213 (dk_at dksX1_told_3 0 rfl rfl)
theorem dX1_told_87 : decode cX1_told 87 = .ok (.ireturn, 1) := dk_172 (dk_at dksX1_told_3 3 rfl rfl)
theorem dX1_told_88 : decode cX1_told 88 = .ok (.aload_n 0, 1) := dk_42 (dk_at dksX1_told_3 4 rfl rfl)
theorem dX1_told_89 : decode cX1_told 89 = .ok (.getfield 111, 3) := dk_180 0 111 (dk_at dksX1_told_3 5 rfl rfl)
theorem dX1_told_92 : decode cX1_told 92 = .ok (.getfield 292, 3) := dk_180 1 36 (dk_at dksX1_told_3 8 rfl rfl)
theorem dX1_told_95 : decode cX1_told 95 = .ok (.ireturn, 1) := dk_172 (dk_at dksX1_told_3 11 rfl rfl)
theorem dX1_told_96 : decode cX1_told 96 = .ok (.aload_n 0, 1) := dk_42 (dk_at dksX1_told_3 12 rfl rfl)
theorem dX1_told_97 : decode cX1_told 97 = .ok (.getfield 454, 3) := dk_180 1 198 (dk_at dksX1_told_3 13 rfl rfl)
theorem dX1_told_100 : decode cX1_told 100 = .ok (.ireturn, 1) := dk_172 (dk_at dksX1_told_3 16 rfl rfl)
theorem dX1_told_101 : decode cX1_told 101 = .ok (.aload_n 0, 1) := dk_42 (dk_at dksX1_told_3 17 rfl rfl)
theorem dX1_told_102 : decode cX1_told 102 = .ok (.getfield 460, 3) := dk_180 1 204 (dk_at dksX1_told_3 18 rfl rfl)
theorem dX1_told_105 : decode cX1_told 105 = .ok (.ireturn, 1) := dk_172 (dk_at dksX1_told_3 21 rfl rfl)
theorem dX1_told_106 : decode cX1_told 106 = .ok (.aload_n 0, 1) := dk_42 (dk_at dksX1_told_3 22 rfl rfl)
theorem dX1_told_107 : decode cX1_told 107 = .ok (.getfield 278, 3) := dk_180 1 22 (dk_at dksX1_told_4 0 rfl rfl)
theorem dX1_told_110 : decode cX1_told 110 = .ok (.ireturn, 1) := dk_172 (dk_at dksX1_told_4 3 rfl rfl)
theorem dX1_told_111 : decode cX1_told 111 = .ok (.bipush (-3), 2) := dk_16 253 (dk_at dksX1_told_4 4 rfl rfl)
theorem dX1_told_113 : decode cX1_told 113 = .ok (.ireturn, 1) := dk_172 (dk_at dksX1_told_4 6 rfl rfl)
abbrev cX1_openHandles : ByteArray := prog_1_method_88_code
def yX1_openHandles : MethodName := ⟨RX1, "openHandles", "()I"⟩
def dkwX1_openHandles_1 : List UInt8 := [3, 96, 60, 132, 2, 1, 167, 255, 230, 27, 172]
abbrev dktX1_openHandles_1 : List UInt8 := dkwX1_openHandles_1 ++ []
def dkwX1_openHandles_0 : List UInt8 := [3, 60, 3, 61, 28, 16, 8, 162, 0, 26, 27, 42, 180, 0, 32, 28, 46, 158, 0, 7, 4, 167, 0, 4]
abbrev dktX1_openHandles_0 : List UInt8 := dkwX1_openHandles_0 ++ dktX1_openHandles_1
theorem dksX1_openHandles_0 : cX1_openHandles.data.toList.drop 0 = dktX1_openHandles_0 := by decide +kernel
theorem dksX1_openHandles_1 : cX1_openHandles.data.toList.drop 24 = dktX1_openHandles_1 := dk_seg dksX1_openHandles_0 24 rfl rfl
theorem dX1_openHandles_0 : decode cX1_openHandles 0 = .ok (.iconst 0, 1) := dk_3 (dk_at dksX1_openHandles_0 0 rfl rfl)
theorem dX1_openHandles_1 : decode cX1_openHandles 1 = .ok (.istore_n 1, 1) := dk_60 (dk_at dksX1_openHandles_0 1 rfl rfl)
theorem dX1_openHandles_2 : decode cX1_openHandles 2 = .ok (.iconst 0, 1) := dk_3 (dk_at dksX1_openHandles_0 2 rfl rfl)
theorem dX1_openHandles_3 : decode cX1_openHandles 3 = .ok (.istore_n 2, 1) := dk_61 (dk_at dksX1_openHandles_0 3 rfl rfl)
theorem dX1_openHandles_4 : decode cX1_openHandles 4 = .ok (.iload_n 2, 1) := dk_28 (dk_at dksX1_openHandles_0 4 rfl rfl)
theorem dX1_openHandles_5 : decode cX1_openHandles 5 = .ok (.bipush 8, 2) := dk_16 8 (dk_at dksX1_openHandles_0 5 rfl rfl)
theorem dX1_openHandles_7 : decode cX1_openHandles 7 = .ok (.if_icmp .ge 26, 3) := dk_162 0 26 (dk_at dksX1_openHandles_0 7 rfl rfl)
theorem dX1_openHandles_10 : decode cX1_openHandles 10 = .ok (.iload_n 1, 1) := dk_27 (dk_at dksX1_openHandles_0 10 rfl rfl)
theorem dX1_openHandles_11 : decode cX1_openHandles 11 = .ok (.aload_n 0, 1) := dk_42 (dk_at dksX1_openHandles_0 11 rfl rfl)
theorem dX1_openHandles_12 : decode cX1_openHandles 12 = .ok (.getfield 32, 3) := dk_180 0 32 (dk_at dksX1_openHandles_0 12 rfl rfl)
theorem dX1_openHandles_15 : decode cX1_openHandles 15 = .ok (.iload_n 2, 1) := dk_28 (dk_at dksX1_openHandles_0 15 rfl rfl)
theorem dX1_openHandles_16 : decode cX1_openHandles 16 = .ok (.iaload, 1) := dk_46 (dk_at dksX1_openHandles_0 16 rfl rfl)
theorem dX1_openHandles_17 : decode cX1_openHandles 17 = .ok (.ifCond .le 7, 3) := dk_158 0 7 (dk_at dksX1_openHandles_0 17 rfl rfl)
theorem dX1_openHandles_20 : decode cX1_openHandles 20 = .ok (.iconst 1, 1) := dk_4 (dk_at dksX1_openHandles_0 20 rfl rfl)
theorem dX1_openHandles_21 : decode cX1_openHandles 21 = .ok (.goto 4, 3) := dk_167 0 4 (dk_at dksX1_openHandles_0 21 rfl rfl)
theorem dX1_openHandles_24 : decode cX1_openHandles 24 = .ok (.iconst 0, 1) := dk_3 (dk_at dksX1_openHandles_1 0 rfl rfl)
theorem dX1_openHandles_25 : decode cX1_openHandles 25 = .ok (.iadd, 1) := dk_96 (dk_at dksX1_openHandles_1 1 rfl rfl)
theorem dX1_openHandles_26 : decode cX1_openHandles 26 = .ok (.istore_n 1, 1) := dk_60 (dk_at dksX1_openHandles_1 2 rfl rfl)
theorem dX1_openHandles_27 : decode cX1_openHandles 27 = .ok (.iinc 2 1, 3) := dk_132 2 1 (dk_at dksX1_openHandles_1 3 rfl rfl)
theorem dX1_openHandles_30 : decode cX1_openHandles 30 = .ok (.goto (-26), 3) := dk_167 255 230 (dk_at dksX1_openHandles_1 6 rfl rfl)
theorem dX1_openHandles_33 : decode cX1_openHandles 33 = .ok (.iload_n 1, 1) := dk_27 (dk_at dksX1_openHandles_1 9 rfl rfl)
theorem dX1_openHandles_34 : decode cX1_openHandles 34 = .ok (.ireturn, 1) := dk_172 (dk_at dksX1_openHandles_1 10 rfl rfl)
abbrev cX1_sound : ByteArray := prog_1_method_89_code
def yX1_sound : MethodName := ⟨RX1, "sound", "()Z"⟩
def dkwX1_sound_2 : List UInt8 := [182, 1, 181, 42, 180, 0, 111, 42, 180, 0, 115, 182, 1, 222, 172]
abbrev dktX1_sound_2 : List UInt8 := dkwX1_sound_2 ++ []
def dkwX1_sound_1 : List UInt8 := [182, 1, 219, 154, 0, 5, 3, 172, 42, 180, 0, 111, 180, 1, 169, 158, 0, 5, 4, 172, 42, 180, 0, 115]
abbrev dktX1_sound_1 : List UInt8 := dkwX1_sound_1 ++ dktX1_sound_2
def dkwX1_sound_0 : List UInt8 := [42, 180, 0, 28, 153, 0, 24, 42, 180, 0, 111, 42, 180, 0, 118, 182, 1, 215, 153, 0, 10, 42]
abbrev dktX1_sound_0 : List UInt8 := dkwX1_sound_0 ++ dktX1_sound_1
theorem dksX1_sound_0 : cX1_sound.data.toList.drop 0 = dktX1_sound_0 := by decide +kernel
theorem dksX1_sound_1 : cX1_sound.data.toList.drop 22 = dktX1_sound_1 := dk_seg dksX1_sound_0 22 rfl rfl
theorem dksX1_sound_2 : cX1_sound.data.toList.drop 46 = dktX1_sound_2 := dk_seg dksX1_sound_1 24 rfl rfl
theorem dX1_sound_0 : decode cX1_sound 0 = .ok (.aload_n 0, 1) := dk_42 (dk_at dksX1_sound_0 0 rfl rfl)
theorem dX1_sound_1 : decode cX1_sound 1 = .ok (.getfield 28, 3) := dk_180 0 28 (dk_at dksX1_sound_0 1 rfl rfl)
theorem dX1_sound_4 : decode cX1_sound 4 = .ok (.ifCond .eq 24, 3) := dk_153 0 24 (dk_at dksX1_sound_0 4 rfl rfl)
theorem dX1_sound_7 : decode cX1_sound 7 = .ok (.aload_n 0, 1) := dk_42 (dk_at dksX1_sound_0 7 rfl rfl)
theorem dX1_sound_8 : decode cX1_sound 8 = .ok (.getfield 111, 3) := dk_180 0 111 (dk_at dksX1_sound_0 8 rfl rfl)
theorem dX1_sound_11 : decode cX1_sound 11 = .ok (.aload_n 0, 1) := dk_42 (dk_at dksX1_sound_0 11 rfl rfl)
theorem dX1_sound_12 : decode cX1_sound 12 = .ok (.getfield 118, 3) := dk_180 0 118 (dk_at dksX1_sound_0 12 rfl rfl)
theorem dX1_sound_15 : decode cX1_sound 15 = .ok (.invokevirtual 471, 3) := dk_182 1 215 (dk_at dksX1_sound_0 15 rfl rfl)
theorem dX1_sound_18 : decode cX1_sound 18 = .ok (.ifCond .eq 10, 3) := dk_153 0 10 (dk_at dksX1_sound_0 18 rfl rfl)
theorem dX1_sound_21 : decode cX1_sound 21 = .ok (.aload_n 0, 1) := dk_42 (dk_at dksX1_sound_0 21 rfl rfl)
theorem dX1_sound_22 : decode cX1_sound 22 = .ok (.invokevirtual 475, 3) := dk_182 1 219 (dk_at dksX1_sound_1 0 rfl rfl)
theorem dX1_sound_25 : decode cX1_sound 25 = .ok (.ifCond .ne 5, 3) := dk_154 0 5 (dk_at dksX1_sound_1 3 rfl rfl)
theorem dX1_sound_28 : decode cX1_sound 28 = .ok (.iconst 0, 1) := dk_3 (dk_at dksX1_sound_1 6 rfl rfl)
theorem dX1_sound_29 : decode cX1_sound 29 = .ok (.ireturn, 1) := dk_172 (dk_at dksX1_sound_1 7 rfl rfl)
theorem dX1_sound_30 : decode cX1_sound 30 = .ok (.aload_n 0, 1) := dk_42 (dk_at dksX1_sound_1 8 rfl rfl)
theorem dX1_sound_31 : decode cX1_sound 31 = .ok (.getfield 111, 3) := dk_180 0 111 (dk_at dksX1_sound_1 9 rfl rfl)
theorem dX1_sound_34 : decode cX1_sound 34 = .ok (.getfield 425, 3) := dk_180 1 169 (dk_at dksX1_sound_1 12 rfl rfl)
theorem dX1_sound_37 : decode cX1_sound 37 = .ok (.ifCond .le 5, 3) := dk_158 0 5 (dk_at dksX1_sound_1 15 rfl rfl)
theorem dX1_sound_40 : decode cX1_sound 40 = .ok (.iconst 1, 1) := dk_4 (dk_at dksX1_sound_1 18 rfl rfl)
theorem dX1_sound_41 : decode cX1_sound 41 = .ok (.ireturn, 1) := dk_172 (dk_at dksX1_sound_1 19 rfl rfl)
theorem dX1_sound_42 : decode cX1_sound 42 = .ok (.aload_n 0, 1) := dk_42 (dk_at dksX1_sound_1 20 rfl rfl)
theorem dX1_sound_43 : decode cX1_sound 43 = .ok (.getfield 115, 3) := dk_180 0 115 (dk_at dksX1_sound_1 21 rfl rfl)
theorem dX1_sound_46 : decode cX1_sound 46 = .ok (.invokevirtual 437, 3) := dk_182 1 181 (dk_at dksX1_sound_2 0 rfl rfl)
theorem dX1_sound_49 : decode cX1_sound 49 = .ok (.aload_n 0, 1) := dk_42 (dk_at dksX1_sound_2 3 rfl rfl)
theorem dX1_sound_50 : decode cX1_sound 50 = .ok (.getfield 111, 3) := dk_180 0 111 (dk_at dksX1_sound_2 4 rfl rfl)
theorem dX1_sound_53 : decode cX1_sound 53 = .ok (.aload_n 0, 1) := dk_42 (dk_at dksX1_sound_2 7 rfl rfl)
theorem dX1_sound_54 : decode cX1_sound 54 = .ok (.getfield 115, 3) := dk_180 0 115 (dk_at dksX1_sound_2 8 rfl rfl)
theorem dX1_sound_57 : decode cX1_sound 57 = .ok (.invokevirtual 478, 3) := dk_182 1 222 (dk_at dksX1_sound_2 11 rfl rfl)
theorem dX1_sound_60 : decode cX1_sound 60 = .ok (.ireturn, 1) := dk_172 (dk_at dksX1_sound_2 14 rfl rfl)
abbrev cX1_goesTogether : ByteArray := prog_1_method_90_code
def yX1_goesTogether : MethodName := ⟨RX1, "goesTogether", "()Z"⟩
def dkwX1_goesTogether_29 : List UInt8 := [180, 1, 183, 160, 0, 18, 42, 180, 0, 130, 42, 180, 0, 121, 163, 0, 7, 4, 167, 0, 4, 3, 172]
abbrev dktX1_goesTogether_29 : List UInt8 := dkwX1_goesTogether_29 ++ []
def dkwX1_goesTogether_28 : List UInt8 := [153, 0, 45, 27, 42, 180, 0, 130, 160, 0, 37, 28, 42, 180, 0, 133, 160, 0, 29, 29, 42, 180, 0, 111]
abbrev dktX1_goesTogether_28 : List UInt8 := dkwX1_goesTogether_28 ++ dktX1_goesTogether_29
def dkwX1_goesTogether_27 : List UInt8 := [180, 0, 185, 154, 0, 7, 4, 167, 0, 4, 3, 126, 54, 5, 132, 7, 1, 167, 255, 189, 21, 5]
abbrev dktX1_goesTogether_27 : List UInt8 := dkwX1_goesTogether_27 ++ dktX1_goesTogether_28
def dkwX1_goesTogether_26 : List UInt8 := [180, 0, 54, 182, 0, 214, 153, 0, 28, 42, 180, 0, 54, 180, 0, 182, 5, 160, 0, 17, 42, 180, 0, 54]
abbrev dktX1_goesTogether_26 : List UInt8 := dkwX1_goesTogether_26 ++ dktX1_goesTogether_27
def dkwX1_goesTogether_25 : List UInt8 := [180, 0, 111, 180, 1, 183, 162, 0, 61, 21, 5, 42, 42, 180, 0, 111, 180, 1, 186, 21, 7, 46, 42]
abbrev dktX1_goesTogether_25 : List UInt8 := dkwX1_goesTogether_25 ++ dktX1_goesTogether_26
def dkwX1_goesTogether_24 : List UInt8 := [167, 0, 5, 22, 7, 22, 9, 10, 97, 182, 0, 140, 54, 6, 167, 253, 228, 3, 54, 7, 21, 7, 42]
abbrev dktX1_goesTogether_24 : List UInt8 := dkwX1_goesTogether_24 ++ dktX1_goesTogether_25
def dkwX1_goesTogether_23 : List UInt8 := [54, 5, 42, 180, 0, 111, 180, 0, 136, 22, 9, 20, 1, 234, 148, 154, 0, 10, 22, 7, 10, 97]
abbrev dktX1_goesTogether_23 : List UInt8 := dkwX1_goesTogether_23 ++ dktX1_goesTogether_24
def dkwX1_goesTogether_22 : List UInt8 := [182, 0, 214, 153, 0, 18, 22, 9, 184, 1, 79, 184, 1, 18, 153, 0, 7, 4, 167, 0, 4, 3, 126]
abbrev dktX1_goesTogether_22 : List UInt8 := dkwX1_goesTogether_22 ++ dktX1_goesTogether_23
def dkwX1_goesTogether_21 : List UInt8 := [160, 0, 7, 4, 167, 0, 4, 3, 126, 54, 5, 167, 0, 37, 21, 5, 42, 21, 11, 42, 180, 0, 54]
abbrev dktX1_goesTogether_21 : List UInt8 := dkwX1_goesTogether_21 ++ dktX1_goesTogether_22
def dkwX1_goesTogether_20 : List UInt8 := [154, 0, 31, 42, 21, 11, 42, 180, 0, 58, 182, 0, 214, 153, 0, 18, 42, 180, 0, 58, 180, 0, 182, 4]
abbrev dktX1_goesTogether_20 : List UInt8 := dkwX1_goesTogether_20 ++ dktX1_goesTogether_21
def dkwX1_goesTogether_19 : List UInt8 := [42, 180, 0, 54, 182, 0, 214, 153, 0, 48, 22, 12, 184, 0, 197, 42, 180, 0, 207, 133, 97, 22, 9, 148]
abbrev dktX1_goesTogether_19 : List UInt8 := dkwX1_goesTogether_19 ++ dktX1_goesTogether_20
def dkwX1_goesTogether_18 : List UInt8 := [182, 0, 210, 55, 12, 21, 5, 22, 12, 184, 1, 18, 153, 0, 67, 42, 42, 21, 11, 22, 12, 182, 1, 29]
abbrev dktX1_goesTogether_18 : List UInt8 := dkwX1_goesTogether_18 ++ dktX1_goesTogether_19
def dkwX1_goesTogether_17 : List UInt8 := [180, 0, 146, 42, 180, 0, 111, 180, 0, 170, 182, 0, 173, 42, 180, 0, 111, 180, 0, 170, 16, 8]
abbrev dktX1_goesTogether_17 : List UInt8 := dkwX1_goesTogether_17 ++ dktX1_goesTogether_18
def dkwX1_goesTogether_16 : List UInt8 := [180, 0, 136, 180, 0, 164, 42, 180, 0, 111, 180, 0, 136, 180, 0, 167, 42, 180, 0, 111, 180, 0, 136]
abbrev dktX1_goesTogether_16 : List UInt8 := dkwX1_goesTogether_16 ++ dktX1_goesTogether_17
def dkwX1_goesTogether_15 : List UInt8 := [167, 0, 189, 22, 7, 20, 0, 18, 113, 20, 1, 82, 148, 154, 0, 142, 42, 180, 0, 111, 42, 180, 0, 111]
abbrev dktX1_goesTogether_15 : List UInt8 := dkwX1_goesTogether_15 ++ dktX1_goesTogether_16
def dkwX1_goesTogether_14 : List UInt8 := [133, 97, 42, 180, 0, 54, 180, 0, 188, 133, 148, 157, 0, 7, 4, 167, 0, 4, 3, 126, 54, 5]
abbrev dktX1_goesTogether_14 : List UInt8 := dkwX1_goesTogether_14 ++ dktX1_goesTogether_15
def dkwX1_goesTogether_13 : List UInt8 := [180, 0, 54, 182, 0, 214, 153, 0, 36, 22, 9, 20, 1, 232, 105, 42, 21, 11, 22, 9, 136, 182, 1, 100]
abbrev dktX1_goesTogether_13 : List UInt8 := dkwX1_goesTogether_13 ++ dktX1_goesTogether_14
def dkwX1_goesTogether_12 : List UInt8 := [54, 5, 167, 0, 255, 22, 7, 20, 0, 18, 113, 10, 148, 154, 0, 58, 21, 5, 42, 21, 11, 42]
abbrev dktX1_goesTogether_12 : List UInt8 := dkwX1_goesTogether_12 ++ dktX1_goesTogether_13
def dkwX1_goesTogether_11 : List UInt8 := [42, 21, 11, 3, 182, 1, 100, 42, 180, 0, 54, 180, 0, 188, 160, 0, 7, 4, 167, 0, 4, 3, 126]
abbrev dktX1_goesTogether_11 : List UInt8 := dkwX1_goesTogether_11 ++ dktX1_goesTogether_12
def dkwX1_goesTogether_10 : List UInt8 := [182, 1, 226, 42, 180, 0, 54, 180, 0, 192, 160, 0, 35, 42, 180, 0, 54, 180, 0, 182, 6, 160, 0, 20]
abbrev dktX1_goesTogether_10 : List UInt8 := dkwX1_goesTogether_10 ++ dktX1_goesTogether_11
def dkwX1_goesTogether_9 : List UInt8 := [21, 11, 182, 1, 3, 153, 0, 7, 4, 167, 0, 4, 3, 126, 54, 5, 21, 5, 42, 21, 11, 6]
abbrev dktX1_goesTogether_9 : List UInt8 := dkwX1_goesTogether_9 ++ dktX1_goesTogether_10
def dkwX1_goesTogether_8 : List UInt8 := [182, 1, 229, 42, 180, 0, 54, 180, 0, 185, 160, 0, 26, 42, 180, 0, 54, 180, 0, 185, 157, 0, 12, 42]
abbrev dktX1_goesTogether_8 : List UInt8 := dkwX1_goesTogether_8 ++ dktX1_goesTogether_9
def dkwX1_goesTogether_7 : List UInt8 := [5, 182, 1, 226, 42, 180, 0, 54, 180, 0, 189, 160, 0, 47, 167, 0, 40, 42, 21, 11, 21, 4]
abbrev dktX1_goesTogether_7 : List UInt8 := dkwX1_goesTogether_7 ++ dktX1_goesTogether_8
def dkwX1_goesTogether_6 : List UInt8 := [3, 96, 62, 21, 5, 21, 5, 153, 0, 75, 42, 180, 0, 54, 180, 0, 182, 4, 160, 0, 23, 42, 21, 11]
abbrev dktX1_goesTogether_6 : List UInt8 := dkwX1_goesTogether_6 ++ dktX1_goesTogether_7
def dkwX1_goesTogether_5 : List UInt8 := [180, 0, 54, 180, 0, 182, 5, 160, 0, 17, 42, 180, 0, 54, 180, 0, 185, 154, 0, 7, 4, 167, 0, 4]
abbrev dktX1_goesTogether_5 : List UInt8 := dkwX1_goesTogether_5 ++ dktX1_goesTogether_6
def dkwX1_goesTogether_4 : List UInt8 := [154, 0, 191, 132, 2, 1, 21, 5, 42, 21, 11, 42, 180, 0, 54, 182, 0, 214, 126, 54, 5, 29, 42]
abbrev dktX1_goesTogether_4 : List UInt8 := dkwX1_goesTogether_4 ++ dktX1_goesTogether_5
def dkwX1_goesTogether_3 : List UInt8 := [180, 0, 111, 180, 0, 136, 180, 0, 146, 17, 0, 192, 96, 96, 60, 22, 7, 20, 0, 18, 113, 9, 148]
abbrev dktX1_goesTogether_3 : List UInt8 := dkwX1_goesTogether_3 ++ dktX1_goesTogether_4
def dkwX1_goesTogether_2 : List UInt8 := [180, 0, 111, 180, 0, 136, 180, 0, 204, 55, 9, 22, 7, 20, 0, 18, 109, 136, 54, 11, 27, 42]
abbrev dktX1_goesTogether_2 : List UInt8 := dkwX1_goesTogether_2 ++ dktX1_goesTogether_3
def dkwX1_goesTogether_1 : List UInt8 := [9, 182, 0, 140, 54, 6, 21, 6, 153, 2, 29, 42, 180, 0, 111, 180, 0, 136, 180, 0, 149, 55, 7, 42]
abbrev dktX1_goesTogether_1 : List UInt8 := dkwX1_goesTogether_1 ++ dktX1_goesTogether_2
def dkwX1_goesTogether_0 : List UInt8 := [3, 60, 3, 61, 3, 62, 42, 3, 182, 1, 70, 54, 4, 4, 54, 5, 42, 180, 0, 111, 180, 0, 136, 9]
abbrev dktX1_goesTogether_0 : List UInt8 := dkwX1_goesTogether_0 ++ dktX1_goesTogether_1
theorem dksX1_goesTogether_0 : cX1_goesTogether.data.toList.drop 0 = dktX1_goesTogether_0 := by decide +kernel
theorem dksX1_goesTogether_1 : cX1_goesTogether.data.toList.drop 24 = dktX1_goesTogether_1 := dk_seg dksX1_goesTogether_0 24 rfl rfl
theorem dksX1_goesTogether_2 : cX1_goesTogether.data.toList.drop 48 = dktX1_goesTogether_2 := dk_seg dksX1_goesTogether_1 24 rfl rfl
theorem dksX1_goesTogether_3 : cX1_goesTogether.data.toList.drop 70 = dktX1_goesTogether_3 := dk_seg dksX1_goesTogether_2 22 rfl rfl
theorem dksX1_goesTogether_4 : cX1_goesTogether.data.toList.drop 93 = dktX1_goesTogether_4 := dk_seg dksX1_goesTogether_3 23 rfl rfl
theorem dksX1_goesTogether_5 : cX1_goesTogether.data.toList.drop 116 = dktX1_goesTogether_5 := dk_seg dksX1_goesTogether_4 23 rfl rfl
theorem dksX1_goesTogether_6 : cX1_goesTogether.data.toList.drop 140 = dktX1_goesTogether_6 := dk_seg dksX1_goesTogether_5 24 rfl rfl
theorem dksX1_goesTogether_7 : cX1_goesTogether.data.toList.drop 164 = dktX1_goesTogether_7 := dk_seg dksX1_goesTogether_6 24 rfl rfl
theorem dksX1_goesTogether_8 : cX1_goesTogether.data.toList.drop 186 = dktX1_goesTogether_8 := dk_seg dksX1_goesTogether_7 22 rfl rfl
theorem dksX1_goesTogether_9 : cX1_goesTogether.data.toList.drop 210 = dktX1_goesTogether_9 := dk_seg dksX1_goesTogether_8 24 rfl rfl
theorem dksX1_goesTogether_10 : cX1_goesTogether.data.toList.drop 232 = dktX1_goesTogether_10 := dk_seg dksX1_goesTogether_9 22 rfl rfl
theorem dksX1_goesTogether_11 : cX1_goesTogether.data.toList.drop 256 = dktX1_goesTogether_11 := dk_seg dksX1_goesTogether_10 24 rfl rfl
theorem dksX1_goesTogether_12 : cX1_goesTogether.data.toList.drop 279 = dktX1_goesTogether_12 := dk_seg dksX1_goesTogether_11 23 rfl rfl
theorem dksX1_goesTogether_13 : cX1_goesTogether.data.toList.drop 301 = dktX1_goesTogether_13 := dk_seg dksX1_goesTogether_12 22 rfl rfl
theorem dksX1_goesTogether_14 : cX1_goesTogether.data.toList.drop 325 = dktX1_goesTogether_14 := dk_seg dksX1_goesTogether_13 24 rfl rfl
theorem dksX1_goesTogether_15 : cX1_goesTogether.data.toList.drop 347 = dktX1_goesTogether_15 := dk_seg dksX1_goesTogether_14 22 rfl rfl
theorem dksX1_goesTogether_16 : cX1_goesTogether.data.toList.drop 371 = dktX1_goesTogether_16 := dk_seg dksX1_goesTogether_15 24 rfl rfl
theorem dksX1_goesTogether_17 : cX1_goesTogether.data.toList.drop 394 = dktX1_goesTogether_17 := dk_seg dksX1_goesTogether_16 23 rfl rfl
theorem dksX1_goesTogether_18 : cX1_goesTogether.data.toList.drop 416 = dktX1_goesTogether_18 := dk_seg dksX1_goesTogether_17 22 rfl rfl
theorem dksX1_goesTogether_19 : cX1_goesTogether.data.toList.drop 440 = dktX1_goesTogether_19 := dk_seg dksX1_goesTogether_18 24 rfl rfl
theorem dksX1_goesTogether_20 : cX1_goesTogether.data.toList.drop 464 = dktX1_goesTogether_20 := dk_seg dksX1_goesTogether_19 24 rfl rfl
theorem dksX1_goesTogether_21 : cX1_goesTogether.data.toList.drop 488 = dktX1_goesTogether_21 := dk_seg dksX1_goesTogether_20 24 rfl rfl
theorem dksX1_goesTogether_22 : cX1_goesTogether.data.toList.drop 511 = dktX1_goesTogether_22 := dk_seg dksX1_goesTogether_21 23 rfl rfl
theorem dksX1_goesTogether_23 : cX1_goesTogether.data.toList.drop 534 = dktX1_goesTogether_23 := dk_seg dksX1_goesTogether_22 23 rfl rfl
theorem dksX1_goesTogether_24 : cX1_goesTogether.data.toList.drop 556 = dktX1_goesTogether_24 := dk_seg dksX1_goesTogether_23 22 rfl rfl
theorem dksX1_goesTogether_25 : cX1_goesTogether.data.toList.drop 579 = dktX1_goesTogether_25 := dk_seg dksX1_goesTogether_24 23 rfl rfl
theorem dksX1_goesTogether_26 : cX1_goesTogether.data.toList.drop 602 = dktX1_goesTogether_26 := dk_seg dksX1_goesTogether_25 23 rfl rfl
theorem dksX1_goesTogether_27 : cX1_goesTogether.data.toList.drop 626 = dktX1_goesTogether_27 := dk_seg dksX1_goesTogether_26 24 rfl rfl
theorem dksX1_goesTogether_28 : cX1_goesTogether.data.toList.drop 648 = dktX1_goesTogether_28 := dk_seg dksX1_goesTogether_27 22 rfl rfl
theorem dksX1_goesTogether_29 : cX1_goesTogether.data.toList.drop 672 = dktX1_goesTogether_29 := dk_seg dksX1_goesTogether_28 24 rfl rfl
theorem dX1_goesTogether_0 : decode cX1_goesTogether 0 = .ok (.iconst 0, 1) := dk_3 (dk_at dksX1_goesTogether_0 0 rfl rfl)
theorem dX1_goesTogether_1 : decode cX1_goesTogether 1 = .ok (.istore_n 1, 1) := dk_60 (dk_at dksX1_goesTogether_0 1 rfl rfl)
theorem dX1_goesTogether_2 : decode cX1_goesTogether 2 = .ok (.iconst 0, 1) := dk_3 (dk_at dksX1_goesTogether_0 2 rfl rfl)
theorem dX1_goesTogether_3 : decode cX1_goesTogether 3 = .ok (.istore_n 2, 1) := dk_61 (dk_at dksX1_goesTogether_0 3 rfl rfl)
theorem dX1_goesTogether_4 : decode cX1_goesTogether 4 = .ok (.iconst 0, 1) := dk_3 (dk_at dksX1_goesTogether_0 4 rfl rfl)
theorem dX1_goesTogether_5 : decode cX1_goesTogether 5 = .ok (.istore_n 3, 1) := dk_62 (dk_at dksX1_goesTogether_0 5 rfl rfl)
theorem dX1_goesTogether_6 : decode cX1_goesTogether 6 = .ok (.aload_n 0, 1) := dk_42 (dk_at dksX1_goesTogether_0 6 rfl rfl)
theorem dX1_goesTogether_7 : decode cX1_goesTogether 7 = .ok (.iconst 0, 1) := dk_3 (dk_at dksX1_goesTogether_0 7 rfl rfl)
theorem dX1_goesTogether_8 : decode cX1_goesTogether 8 = .ok (.invokevirtual 326, 3) := dk_182 1 70 (dk_at dksX1_goesTogether_0 8 rfl rfl)
theorem dX1_goesTogether_11 : decode cX1_goesTogether 11 = .ok (.istore 4, 2) := dk_54 4 (dk_at dksX1_goesTogether_0 11 rfl rfl)
theorem dX1_goesTogether_13 : decode cX1_goesTogether 13 = .ok (.iconst 1, 1) := dk_4 (dk_at dksX1_goesTogether_0 13 rfl rfl)
theorem dX1_goesTogether_14 : decode cX1_goesTogether 14 = .ok (.istore 5, 2) := dk_54 5 (dk_at dksX1_goesTogether_0 14 rfl rfl)
theorem dX1_goesTogether_16 : decode cX1_goesTogether 16 = .ok (.aload_n 0, 1) := dk_42 (dk_at dksX1_goesTogether_0 16 rfl rfl)
theorem dX1_goesTogether_17 : decode cX1_goesTogether 17 = .ok (.getfield 111, 3) := dk_180 0 111 (dk_at dksX1_goesTogether_0 17 rfl rfl)
theorem dX1_goesTogether_20 : decode cX1_goesTogether 20 = .ok (.getfield 136, 3) := dk_180 0 136 (dk_at dksX1_goesTogether_0 20 rfl rfl)
theorem dX1_goesTogether_23 : decode cX1_goesTogether 23 = .ok (.lconst 0, 1) := dk_9 (dk_at dksX1_goesTogether_0 23 rfl rfl)
theorem dX1_goesTogether_24 : decode cX1_goesTogether 24 = .ok (.lconst 0, 1) := dk_9 (dk_at dksX1_goesTogether_1 0 rfl rfl)
theorem dX1_goesTogether_25 : decode cX1_goesTogether 25 = .ok (.invokevirtual 140, 3) := dk_182 0 140 (dk_at dksX1_goesTogether_1 1 rfl rfl)
theorem dX1_goesTogether_28 : decode cX1_goesTogether 28 = .ok (.istore 6, 2) := dk_54 6 (dk_at dksX1_goesTogether_1 4 rfl rfl)
theorem dX1_goesTogether_30 : decode cX1_goesTogether 30 = .ok (.iload 6, 2) := dk_21 6 (dk_at dksX1_goesTogether_1 6 rfl rfl)
theorem dX1_goesTogether_32 : decode cX1_goesTogether 32 = .ok (.ifCond .eq 541, 3) := dk_153 2 29 (dk_at dksX1_goesTogether_1 8 rfl rfl)
theorem dX1_goesTogether_35 : decode cX1_goesTogether 35 = .ok (.aload_n 0, 1) := dk_42 (dk_at dksX1_goesTogether_1 11 rfl rfl)
theorem dX1_goesTogether_36 : decode cX1_goesTogether 36 = .ok (.getfield 111, 3) := dk_180 0 111 (dk_at dksX1_goesTogether_1 12 rfl rfl)
theorem dX1_goesTogether_39 : decode cX1_goesTogether 39 = .ok (.getfield 136, 3) := dk_180 0 136 (dk_at dksX1_goesTogether_1 15 rfl rfl)
theorem dX1_goesTogether_42 : decode cX1_goesTogether 42 = .ok (.getfield 149, 3) := dk_180 0 149 (dk_at dksX1_goesTogether_1 18 rfl rfl)
theorem dX1_goesTogether_45 : decode cX1_goesTogether 45 = .ok (.lstore 7, 2) := dk_55 7 (dk_at dksX1_goesTogether_1 21 rfl rfl)
theorem dX1_goesTogether_47 : decode cX1_goesTogether 47 = .ok (.aload_n 0, 1) := dk_42 (dk_at dksX1_goesTogether_1 23 rfl rfl)
theorem dX1_goesTogether_48 : decode cX1_goesTogether 48 = .ok (.getfield 111, 3) := dk_180 0 111 (dk_at dksX1_goesTogether_2 0 rfl rfl)
theorem dX1_goesTogether_51 : decode cX1_goesTogether 51 = .ok (.getfield 136, 3) := dk_180 0 136 (dk_at dksX1_goesTogether_2 3 rfl rfl)
theorem dX1_goesTogether_54 : decode cX1_goesTogether 54 = .ok (.getfield 204, 3) := dk_180 0 204 (dk_at dksX1_goesTogether_2 6 rfl rfl)
theorem dX1_goesTogether_57 : decode cX1_goesTogether 57 = .ok (.lstore 9, 2) := dk_55 9 (dk_at dksX1_goesTogether_2 9 rfl rfl)
theorem dX1_goesTogether_59 : decode cX1_goesTogether 59 = .ok (.lload 7, 2) := dk_22 7 (dk_at dksX1_goesTogether_2 11 rfl rfl)
theorem dX1_goesTogether_61 : decode cX1_goesTogether 61 = .ok (.ldc2_w 18, 3) := dk_20 0 18 (dk_at dksX1_goesTogether_2 13 rfl rfl)
theorem dX1_goesTogether_64 : decode cX1_goesTogether 64 = .ok (.ldiv, 1) := dk_109 (dk_at dksX1_goesTogether_2 16 rfl rfl)
theorem dX1_goesTogether_65 : decode cX1_goesTogether 65 = .ok (.l2i, 1) := dk_136 (dk_at dksX1_goesTogether_2 17 rfl rfl)
theorem dX1_goesTogether_66 : decode cX1_goesTogether 66 = .ok (.istore 11, 2) := dk_54 11 (dk_at dksX1_goesTogether_2 18 rfl rfl)
theorem dX1_goesTogether_68 : decode cX1_goesTogether 68 = .ok (.iload_n 1, 1) := dk_27 (dk_at dksX1_goesTogether_2 20 rfl rfl)
theorem dX1_goesTogether_69 : decode cX1_goesTogether 69 = .ok (.aload_n 0, 1) := dk_42 (dk_at dksX1_goesTogether_2 21 rfl rfl)
theorem dX1_goesTogether_70 : decode cX1_goesTogether 70 = .ok (.getfield 111, 3) := dk_180 0 111 (dk_at dksX1_goesTogether_3 0 rfl rfl)
theorem dX1_goesTogether_73 : decode cX1_goesTogether 73 = .ok (.getfield 136, 3) := dk_180 0 136 (dk_at dksX1_goesTogether_3 3 rfl rfl)
theorem dX1_goesTogether_76 : decode cX1_goesTogether 76 = .ok (.getfield 146, 3) := dk_180 0 146 (dk_at dksX1_goesTogether_3 6 rfl rfl)
theorem dX1_goesTogether_79 : decode cX1_goesTogether 79 = .ok (.sipush 192, 3) := dk_17 0 192 (dk_at dksX1_goesTogether_3 9 rfl rfl)
theorem dX1_goesTogether_82 : decode cX1_goesTogether 82 = .ok (.iadd, 1) := dk_96 (dk_at dksX1_goesTogether_3 12 rfl rfl)
theorem dX1_goesTogether_83 : decode cX1_goesTogether 83 = .ok (.iadd, 1) := dk_96 (dk_at dksX1_goesTogether_3 13 rfl rfl)
theorem dX1_goesTogether_84 : decode cX1_goesTogether 84 = .ok (.istore_n 1, 1) := dk_60 (dk_at dksX1_goesTogether_3 14 rfl rfl)
theorem dX1_goesTogether_85 : decode cX1_goesTogether 85 = .ok (.lload 7, 2) := dk_22 7 (dk_at dksX1_goesTogether_3 15 rfl rfl)
theorem dX1_goesTogether_87 : decode cX1_goesTogether 87 = .ok (.ldc2_w 18, 3) := dk_20 0 18 (dk_at dksX1_goesTogether_3 17 rfl rfl)
theorem dX1_goesTogether_90 : decode cX1_goesTogether 90 = .ok (.lrem, 1) := dk_113 (dk_at dksX1_goesTogether_3 20 rfl rfl)
theorem dX1_goesTogether_91 : decode cX1_goesTogether 91 = .ok (.lconst 0, 1) := dk_9 (dk_at dksX1_goesTogether_3 21 rfl rfl)
theorem dX1_goesTogether_92 : decode cX1_goesTogether 92 = .ok (.lcmp, 1) := dk_148 (dk_at dksX1_goesTogether_3 22 rfl rfl)
theorem dX1_goesTogether_93 : decode cX1_goesTogether 93 = .ok (.ifCond .ne 191, 3) := dk_154 0 191 (dk_at dksX1_goesTogether_4 0 rfl rfl)
theorem dX1_goesTogether_96 : decode cX1_goesTogether 96 = .ok (.iinc 2 1, 3) := dk_132 2 1 (dk_at dksX1_goesTogether_4 3 rfl rfl)
theorem dX1_goesTogether_99 : decode cX1_goesTogether 99 = .ok (.iload 5, 2) := dk_21 5 (dk_at dksX1_goesTogether_4 6 rfl rfl)
theorem dX1_goesTogether_101 : decode cX1_goesTogether 101 = .ok (.aload_n 0, 1) := dk_42 (dk_at dksX1_goesTogether_4 8 rfl rfl)
theorem dX1_goesTogether_102 : decode cX1_goesTogether 102 = .ok (.iload 11, 2) := dk_21 11 (dk_at dksX1_goesTogether_4 9 rfl rfl)
theorem dX1_goesTogether_104 : decode cX1_goesTogether 104 = .ok (.aload_n 0, 1) := dk_42 (dk_at dksX1_goesTogether_4 11 rfl rfl)
theorem dX1_goesTogether_105 : decode cX1_goesTogether 105 = .ok (.getfield 54, 3) := dk_180 0 54 (dk_at dksX1_goesTogether_4 12 rfl rfl)
theorem dX1_goesTogether_108 : decode cX1_goesTogether 108 = .ok (.invokevirtual 214, 3) := dk_182 0 214 (dk_at dksX1_goesTogether_4 15 rfl rfl)
theorem dX1_goesTogether_111 : decode cX1_goesTogether 111 = .ok (.iand, 1) := dk_126 (dk_at dksX1_goesTogether_4 18 rfl rfl)
theorem dX1_goesTogether_112 : decode cX1_goesTogether 112 = .ok (.istore 5, 2) := dk_54 5 (dk_at dksX1_goesTogether_4 19 rfl rfl)
theorem dX1_goesTogether_114 : decode cX1_goesTogether 114 = .ok (.iload_n 3, 1) := dk_29 (dk_at dksX1_goesTogether_4 21 rfl rfl)
theorem dX1_goesTogether_115 : decode cX1_goesTogether 115 = .ok (.aload_n 0, 1) := dk_42 (dk_at dksX1_goesTogether_4 22 rfl rfl)
theorem dX1_goesTogether_116 : decode cX1_goesTogether 116 = .ok (.getfield 54, 3) := dk_180 0 54 (dk_at dksX1_goesTogether_5 0 rfl rfl)
theorem dX1_goesTogether_119 : decode cX1_goesTogether 119 = .ok (.getfield 182, 3) := dk_180 0 182 (dk_at dksX1_goesTogether_5 3 rfl rfl)
theorem dX1_goesTogether_122 : decode cX1_goesTogether 122 = .ok (.iconst 2, 1) := dk_5 (dk_at dksX1_goesTogether_5 6 rfl rfl)
theorem dX1_goesTogether_123 : decode cX1_goesTogether 123 = .ok (.if_icmp .ne 17, 3) := dk_160 0 17 (dk_at dksX1_goesTogether_5 7 rfl rfl)
theorem dX1_goesTogether_126 : decode cX1_goesTogether 126 = .ok (.aload_n 0, 1) := dk_42 (dk_at dksX1_goesTogether_5 10 rfl rfl)
theorem dX1_goesTogether_127 : decode cX1_goesTogether 127 = .ok (.getfield 54, 3) := dk_180 0 54 (dk_at dksX1_goesTogether_5 11 rfl rfl)
theorem dX1_goesTogether_130 : decode cX1_goesTogether 130 = .ok (.getfield 185, 3) := dk_180 0 185 (dk_at dksX1_goesTogether_5 14 rfl rfl)
theorem dX1_goesTogether_133 : decode cX1_goesTogether 133 = .ok (.ifCond .ne 7, 3) := dk_154 0 7 (dk_at dksX1_goesTogether_5 17 rfl rfl)
theorem dX1_goesTogether_136 : decode cX1_goesTogether 136 = .ok (.iconst 1, 1) := dk_4 (dk_at dksX1_goesTogether_5 20 rfl rfl)
theorem dX1_goesTogether_137 : decode cX1_goesTogether 137 = .ok (.goto 4, 3) := dk_167 0 4 (dk_at dksX1_goesTogether_5 21 rfl rfl)
theorem dX1_goesTogether_140 : decode cX1_goesTogether 140 = .ok (.iconst 0, 1) := dk_3 (dk_at dksX1_goesTogether_6 0 rfl rfl)
theorem dX1_goesTogether_141 : decode cX1_goesTogether 141 = .ok (.iadd, 1) := dk_96 (dk_at dksX1_goesTogether_6 1 rfl rfl)
theorem dX1_goesTogether_142 : decode cX1_goesTogether 142 = .ok (.istore_n 3, 1) := dk_62 (dk_at dksX1_goesTogether_6 2 rfl rfl)
theorem dX1_goesTogether_143 : decode cX1_goesTogether 143 = .ok (.iload 5, 2) := dk_21 5 (dk_at dksX1_goesTogether_6 3 rfl rfl)
theorem dX1_goesTogether_145 : decode cX1_goesTogether 145 = .ok (.iload 5, 2) := dk_21 5 (dk_at dksX1_goesTogether_6 5 rfl rfl)
theorem dX1_goesTogether_147 : decode cX1_goesTogether 147 = .ok (.ifCond .eq 75, 3) := dk_153 0 75 (dk_at dksX1_goesTogether_6 7 rfl rfl)
theorem dX1_goesTogether_150 : decode cX1_goesTogether 150 = .ok (.aload_n 0, 1) := dk_42 (dk_at dksX1_goesTogether_6 10 rfl rfl)
theorem dX1_goesTogether_151 : decode cX1_goesTogether 151 = .ok (.getfield 54, 3) := dk_180 0 54 (dk_at dksX1_goesTogether_6 11 rfl rfl)
theorem dX1_goesTogether_154 : decode cX1_goesTogether 154 = .ok (.getfield 182, 3) := dk_180 0 182 (dk_at dksX1_goesTogether_6 14 rfl rfl)
theorem dX1_goesTogether_157 : decode cX1_goesTogether 157 = .ok (.iconst 1, 1) := dk_4 (dk_at dksX1_goesTogether_6 17 rfl rfl)
theorem dX1_goesTogether_158 : decode cX1_goesTogether 158 = .ok (.if_icmp .ne 23, 3) := dk_160 0 23 (dk_at dksX1_goesTogether_6 18 rfl rfl)
theorem dX1_goesTogether_161 : decode cX1_goesTogether 161 = .ok (.aload_n 0, 1) := dk_42 (dk_at dksX1_goesTogether_6 21 rfl rfl)
theorem dX1_goesTogether_162 : decode cX1_goesTogether 162 = .ok (.iload 11, 2) := dk_21 11 (dk_at dksX1_goesTogether_6 22 rfl rfl)
theorem dX1_goesTogether_164 : decode cX1_goesTogether 164 = .ok (.iconst 2, 1) := dk_5 (dk_at dksX1_goesTogether_7 0 rfl rfl)
theorem dX1_goesTogether_165 : decode cX1_goesTogether 165 = .ok (.invokevirtual 482, 3) := dk_182 1 226 (dk_at dksX1_goesTogether_7 1 rfl rfl)
theorem dX1_goesTogether_168 : decode cX1_goesTogether 168 = .ok (.aload_n 0, 1) := dk_42 (dk_at dksX1_goesTogether_7 4 rfl rfl)
theorem dX1_goesTogether_169 : decode cX1_goesTogether 169 = .ok (.getfield 54, 3) := dk_180 0 54 (dk_at dksX1_goesTogether_7 5 rfl rfl)
theorem dX1_goesTogether_172 : decode cX1_goesTogether 172 = .ok (.getfield 189, 3) := dk_180 0 189 (dk_at dksX1_goesTogether_7 8 rfl rfl)
theorem dX1_goesTogether_175 : decode cX1_goesTogether 175 = .ok (.if_icmp .ne 47, 3) := dk_160 0 47 (dk_at dksX1_goesTogether_7 11 rfl rfl)
theorem dX1_goesTogether_178 : decode cX1_goesTogether 178 = .ok (.goto 40, 3) := dk_167 0 40 (dk_at dksX1_goesTogether_7 14 rfl rfl)
theorem dX1_goesTogether_181 : decode cX1_goesTogether 181 = .ok (.aload_n 0, 1) := dk_42 (dk_at dksX1_goesTogether_7 17 rfl rfl)
theorem dX1_goesTogether_182 : decode cX1_goesTogether 182 = .ok (.iload 11, 2) := dk_21 11 (dk_at dksX1_goesTogether_7 18 rfl rfl)
theorem dX1_goesTogether_184 : decode cX1_goesTogether 184 = .ok (.iload 4, 2) := dk_21 4 (dk_at dksX1_goesTogether_7 20 rfl rfl)
theorem dX1_goesTogether_186 : decode cX1_goesTogether 186 = .ok (.invokevirtual 485, 3) := dk_182 1 229 (dk_at dksX1_goesTogether_8 0 rfl rfl)
theorem dX1_goesTogether_189 : decode cX1_goesTogether 189 = .ok (.aload_n 0, 1) := dk_42 (dk_at dksX1_goesTogether_8 3 rfl rfl)
theorem dX1_goesTogether_190 : decode cX1_goesTogether 190 = .ok (.getfield 54, 3) := dk_180 0 54 (dk_at dksX1_goesTogether_8 4 rfl rfl)
theorem dX1_goesTogether_193 : decode cX1_goesTogether 193 = .ok (.getfield 185, 3) := dk_180 0 185 (dk_at dksX1_goesTogether_8 7 rfl rfl)
theorem dX1_goesTogether_196 : decode cX1_goesTogether 196 = .ok (.if_icmp .ne 26, 3) := dk_160 0 26 (dk_at dksX1_goesTogether_8 10 rfl rfl)
theorem dX1_goesTogether_199 : decode cX1_goesTogether 199 = .ok (.aload_n 0, 1) := dk_42 (dk_at dksX1_goesTogether_8 13 rfl rfl)
theorem dX1_goesTogether_200 : decode cX1_goesTogether 200 = .ok (.getfield 54, 3) := dk_180 0 54 (dk_at dksX1_goesTogether_8 14 rfl rfl)
theorem dX1_goesTogether_203 : decode cX1_goesTogether 203 = .ok (.getfield 185, 3) := dk_180 0 185 (dk_at dksX1_goesTogether_8 17 rfl rfl)
theorem dX1_goesTogether_206 : decode cX1_goesTogether 206 = .ok (.ifCond .gt 12, 3) := dk_157 0 12 (dk_at dksX1_goesTogether_8 20 rfl rfl)
theorem dX1_goesTogether_209 : decode cX1_goesTogether 209 = .ok (.aload_n 0, 1) := dk_42 (dk_at dksX1_goesTogether_8 23 rfl rfl)
theorem dX1_goesTogether_210 : decode cX1_goesTogether 210 = .ok (.iload 11, 2) := dk_21 11 (dk_at dksX1_goesTogether_9 0 rfl rfl)
theorem dX1_goesTogether_212 : decode cX1_goesTogether 212 = .ok (.invokevirtual 259, 3) := dk_182 1 3 (dk_at dksX1_goesTogether_9 2 rfl rfl)
theorem dX1_goesTogether_215 : decode cX1_goesTogether 215 = .ok (.ifCond .eq 7, 3) := dk_153 0 7 (dk_at dksX1_goesTogether_9 5 rfl rfl)
theorem dX1_goesTogether_218 : decode cX1_goesTogether 218 = .ok (.iconst 1, 1) := dk_4 (dk_at dksX1_goesTogether_9 8 rfl rfl)
theorem dX1_goesTogether_219 : decode cX1_goesTogether 219 = .ok (.goto 4, 3) := dk_167 0 4 (dk_at dksX1_goesTogether_9 9 rfl rfl)
theorem dX1_goesTogether_222 : decode cX1_goesTogether 222 = .ok (.iconst 0, 1) := dk_3 (dk_at dksX1_goesTogether_9 12 rfl rfl)
theorem dX1_goesTogether_223 : decode cX1_goesTogether 223 = .ok (.iand, 1) := dk_126 (dk_at dksX1_goesTogether_9 13 rfl rfl)
theorem dX1_goesTogether_224 : decode cX1_goesTogether 224 = .ok (.istore 5, 2) := dk_54 5 (dk_at dksX1_goesTogether_9 14 rfl rfl)
theorem dX1_goesTogether_226 : decode cX1_goesTogether 226 = .ok (.iload 5, 2) := dk_21 5 (dk_at dksX1_goesTogether_9 16 rfl rfl)
theorem dX1_goesTogether_228 : decode cX1_goesTogether 228 = .ok (.aload_n 0, 1) := dk_42 (dk_at dksX1_goesTogether_9 18 rfl rfl)
theorem dX1_goesTogether_229 : decode cX1_goesTogether 229 = .ok (.iload 11, 2) := dk_21 11 (dk_at dksX1_goesTogether_9 19 rfl rfl)
theorem dX1_goesTogether_231 : decode cX1_goesTogether 231 = .ok (.iconst 3, 1) := dk_6 (dk_at dksX1_goesTogether_9 21 rfl rfl)
theorem dX1_goesTogether_232 : decode cX1_goesTogether 232 = .ok (.invokevirtual 482, 3) := dk_182 1 226 (dk_at dksX1_goesTogether_10 0 rfl rfl)
theorem dX1_goesTogether_235 : decode cX1_goesTogether 235 = .ok (.aload_n 0, 1) := dk_42 (dk_at dksX1_goesTogether_10 3 rfl rfl)
theorem dX1_goesTogether_236 : decode cX1_goesTogether 236 = .ok (.getfield 54, 3) := dk_180 0 54 (dk_at dksX1_goesTogether_10 4 rfl rfl)
theorem dX1_goesTogether_239 : decode cX1_goesTogether 239 = .ok (.getfield 192, 3) := dk_180 0 192 (dk_at dksX1_goesTogether_10 7 rfl rfl)
theorem dX1_goesTogether_242 : decode cX1_goesTogether 242 = .ok (.if_icmp .ne 35, 3) := dk_160 0 35 (dk_at dksX1_goesTogether_10 10 rfl rfl)
theorem dX1_goesTogether_245 : decode cX1_goesTogether 245 = .ok (.aload_n 0, 1) := dk_42 (dk_at dksX1_goesTogether_10 13 rfl rfl)
theorem dX1_goesTogether_246 : decode cX1_goesTogether 246 = .ok (.getfield 54, 3) := dk_180 0 54 (dk_at dksX1_goesTogether_10 14 rfl rfl)
theorem dX1_goesTogether_249 : decode cX1_goesTogether 249 = .ok (.getfield 182, 3) := dk_180 0 182 (dk_at dksX1_goesTogether_10 17 rfl rfl)
theorem dX1_goesTogether_252 : decode cX1_goesTogether 252 = .ok (.iconst 3, 1) := dk_6 (dk_at dksX1_goesTogether_10 20 rfl rfl)
theorem dX1_goesTogether_253 : decode cX1_goesTogether 253 = .ok (.if_icmp .ne 20, 3) := dk_160 0 20 (dk_at dksX1_goesTogether_10 21 rfl rfl)
theorem dX1_goesTogether_256 : decode cX1_goesTogether 256 = .ok (.aload_n 0, 1) := dk_42 (dk_at dksX1_goesTogether_11 0 rfl rfl)
theorem dX1_goesTogether_257 : decode cX1_goesTogether 257 = .ok (.iload 11, 2) := dk_21 11 (dk_at dksX1_goesTogether_11 1 rfl rfl)
theorem dX1_goesTogether_259 : decode cX1_goesTogether 259 = .ok (.iconst 0, 1) := dk_3 (dk_at dksX1_goesTogether_11 3 rfl rfl)
theorem dX1_goesTogether_260 : decode cX1_goesTogether 260 = .ok (.invokevirtual 356, 3) := dk_182 1 100 (dk_at dksX1_goesTogether_11 4 rfl rfl)
theorem dX1_goesTogether_263 : decode cX1_goesTogether 263 = .ok (.aload_n 0, 1) := dk_42 (dk_at dksX1_goesTogether_11 7 rfl rfl)
theorem dX1_goesTogether_264 : decode cX1_goesTogether 264 = .ok (.getfield 54, 3) := dk_180 0 54 (dk_at dksX1_goesTogether_11 8 rfl rfl)
theorem dX1_goesTogether_267 : decode cX1_goesTogether 267 = .ok (.getfield 188, 3) := dk_180 0 188 (dk_at dksX1_goesTogether_11 11 rfl rfl)
theorem dX1_goesTogether_270 : decode cX1_goesTogether 270 = .ok (.if_icmp .ne 7, 3) := dk_160 0 7 (dk_at dksX1_goesTogether_11 14 rfl rfl)
theorem dX1_goesTogether_273 : decode cX1_goesTogether 273 = .ok (.iconst 1, 1) := dk_4 (dk_at dksX1_goesTogether_11 17 rfl rfl)
theorem dX1_goesTogether_274 : decode cX1_goesTogether 274 = .ok (.goto 4, 3) := dk_167 0 4 (dk_at dksX1_goesTogether_11 18 rfl rfl)
theorem dX1_goesTogether_277 : decode cX1_goesTogether 277 = .ok (.iconst 0, 1) := dk_3 (dk_at dksX1_goesTogether_11 21 rfl rfl)
theorem dX1_goesTogether_278 : decode cX1_goesTogether 278 = .ok (.iand, 1) := dk_126 (dk_at dksX1_goesTogether_11 22 rfl rfl)
theorem dX1_goesTogether_279 : decode cX1_goesTogether 279 = .ok (.istore 5, 2) := dk_54 5 (dk_at dksX1_goesTogether_12 0 rfl rfl)
theorem dX1_goesTogether_281 : decode cX1_goesTogether 281 = .ok (.goto 255, 3) := dk_167 0 255 (dk_at dksX1_goesTogether_12 2 rfl rfl)
theorem dX1_goesTogether_284 : decode cX1_goesTogether 284 = .ok (.lload 7, 2) := dk_22 7 (dk_at dksX1_goesTogether_12 5 rfl rfl)
theorem dX1_goesTogether_286 : decode cX1_goesTogether 286 = .ok (.ldc2_w 18, 3) := dk_20 0 18 (dk_at dksX1_goesTogether_12 7 rfl rfl)
theorem dX1_goesTogether_289 : decode cX1_goesTogether 289 = .ok (.lrem, 1) := dk_113 (dk_at dksX1_goesTogether_12 10 rfl rfl)
theorem dX1_goesTogether_290 : decode cX1_goesTogether 290 = .ok (.lconst 1, 1) := dk_10 (dk_at dksX1_goesTogether_12 11 rfl rfl)
theorem dX1_goesTogether_291 : decode cX1_goesTogether 291 = .ok (.lcmp, 1) := dk_148 (dk_at dksX1_goesTogether_12 12 rfl rfl)
theorem dX1_goesTogether_292 : decode cX1_goesTogether 292 = .ok (.ifCond .ne 58, 3) := dk_154 0 58 (dk_at dksX1_goesTogether_12 13 rfl rfl)
theorem dX1_goesTogether_295 : decode cX1_goesTogether 295 = .ok (.iload 5, 2) := dk_21 5 (dk_at dksX1_goesTogether_12 16 rfl rfl)
theorem dX1_goesTogether_297 : decode cX1_goesTogether 297 = .ok (.aload_n 0, 1) := dk_42 (dk_at dksX1_goesTogether_12 18 rfl rfl)
theorem dX1_goesTogether_298 : decode cX1_goesTogether 298 = .ok (.iload 11, 2) := dk_21 11 (dk_at dksX1_goesTogether_12 19 rfl rfl)
theorem dX1_goesTogether_300 : decode cX1_goesTogether 300 = .ok (.aload_n 0, 1) := dk_42 (dk_at dksX1_goesTogether_12 21 rfl rfl)
theorem dX1_goesTogether_301 : decode cX1_goesTogether 301 = .ok (.getfield 54, 3) := dk_180 0 54 (dk_at dksX1_goesTogether_13 0 rfl rfl)
theorem dX1_goesTogether_304 : decode cX1_goesTogether 304 = .ok (.invokevirtual 214, 3) := dk_182 0 214 (dk_at dksX1_goesTogether_13 3 rfl rfl)
theorem dX1_goesTogether_307 : decode cX1_goesTogether 307 = .ok (.ifCond .eq 36, 3) := dk_153 0 36 (dk_at dksX1_goesTogether_13 6 rfl rfl)
theorem dX1_goesTogether_310 : decode cX1_goesTogether 310 = .ok (.lload 9, 2) := dk_22 9 (dk_at dksX1_goesTogether_13 9 rfl rfl)
theorem dX1_goesTogether_312 : decode cX1_goesTogether 312 = .ok (.ldc2_w 488, 3) := dk_20 1 232 (dk_at dksX1_goesTogether_13 11 rfl rfl)
theorem dX1_goesTogether_315 : decode cX1_goesTogether 315 = .ok (.lmul, 1) := dk_105 (dk_at dksX1_goesTogether_13 14 rfl rfl)
theorem dX1_goesTogether_316 : decode cX1_goesTogether 316 = .ok (.aload_n 0, 1) := dk_42 (dk_at dksX1_goesTogether_13 15 rfl rfl)
theorem dX1_goesTogether_317 : decode cX1_goesTogether 317 = .ok (.iload 11, 2) := dk_21 11 (dk_at dksX1_goesTogether_13 16 rfl rfl)
theorem dX1_goesTogether_319 : decode cX1_goesTogether 319 = .ok (.lload 9, 2) := dk_22 9 (dk_at dksX1_goesTogether_13 18 rfl rfl)
theorem dX1_goesTogether_321 : decode cX1_goesTogether 321 = .ok (.l2i, 1) := dk_136 (dk_at dksX1_goesTogether_13 20 rfl rfl)
theorem dX1_goesTogether_322 : decode cX1_goesTogether 322 = .ok (.invokevirtual 356, 3) := dk_182 1 100 (dk_at dksX1_goesTogether_13 21 rfl rfl)
theorem dX1_goesTogether_325 : decode cX1_goesTogether 325 = .ok (.i2l, 1) := dk_133 (dk_at dksX1_goesTogether_14 0 rfl rfl)
theorem dX1_goesTogether_326 : decode cX1_goesTogether 326 = .ok (.ladd, 1) := dk_97 (dk_at dksX1_goesTogether_14 1 rfl rfl)
theorem dX1_goesTogether_327 : decode cX1_goesTogether 327 = .ok (.aload_n 0, 1) := dk_42 (dk_at dksX1_goesTogether_14 2 rfl rfl)
theorem dX1_goesTogether_328 : decode cX1_goesTogether 328 = .ok (.getfield 54, 3) := dk_180 0 54 (dk_at dksX1_goesTogether_14 3 rfl rfl)
theorem dX1_goesTogether_331 : decode cX1_goesTogether 331 = .ok (.getfield 188, 3) := dk_180 0 188 (dk_at dksX1_goesTogether_14 6 rfl rfl)
theorem dX1_goesTogether_334 : decode cX1_goesTogether 334 = .ok (.i2l, 1) := dk_133 (dk_at dksX1_goesTogether_14 9 rfl rfl)
theorem dX1_goesTogether_335 : decode cX1_goesTogether 335 = .ok (.lcmp, 1) := dk_148 (dk_at dksX1_goesTogether_14 10 rfl rfl)
theorem dX1_goesTogether_336 : decode cX1_goesTogether 336 = .ok (.ifCond .gt 7, 3) := dk_157 0 7 (dk_at dksX1_goesTogether_14 11 rfl rfl)
theorem dX1_goesTogether_339 : decode cX1_goesTogether 339 = .ok (.iconst 1, 1) := dk_4 (dk_at dksX1_goesTogether_14 14 rfl rfl)
theorem dX1_goesTogether_340 : decode cX1_goesTogether 340 = .ok (.goto 4, 3) := dk_167 0 4 (dk_at dksX1_goesTogether_14 15 rfl rfl)
theorem dX1_goesTogether_343 : decode cX1_goesTogether 343 = .ok (.iconst 0, 1) := dk_3 (dk_at dksX1_goesTogether_14 18 rfl rfl)
theorem dX1_goesTogether_344 : decode cX1_goesTogether 344 = .ok (.iand, 1) := dk_126 (dk_at dksX1_goesTogether_14 19 rfl rfl)
theorem dX1_goesTogether_345 : decode cX1_goesTogether 345 = .ok (.istore 5, 2) := dk_54 5 (dk_at dksX1_goesTogether_14 20 rfl rfl)
theorem dX1_goesTogether_347 : decode cX1_goesTogether 347 = .ok (.goto 189, 3) := dk_167 0 189 (dk_at dksX1_goesTogether_15 0 rfl rfl)
theorem dX1_goesTogether_350 : decode cX1_goesTogether 350 = .ok (.lload 7, 2) := dk_22 7 (dk_at dksX1_goesTogether_15 3 rfl rfl)
theorem dX1_goesTogether_352 : decode cX1_goesTogether 352 = .ok (.ldc2_w 18, 3) := dk_20 0 18 (dk_at dksX1_goesTogether_15 5 rfl rfl)
theorem dX1_goesTogether_355 : decode cX1_goesTogether 355 = .ok (.lrem, 1) := dk_113 (dk_at dksX1_goesTogether_15 8 rfl rfl)
theorem dX1_goesTogether_356 : decode cX1_goesTogether 356 = .ok (.ldc2_w 338, 3) := dk_20 1 82 (dk_at dksX1_goesTogether_15 9 rfl rfl)
theorem dX1_goesTogether_359 : decode cX1_goesTogether 359 = .ok (.lcmp, 1) := dk_148 (dk_at dksX1_goesTogether_15 12 rfl rfl)
theorem dX1_goesTogether_360 : decode cX1_goesTogether 360 = .ok (.ifCond .ne 142, 3) := dk_154 0 142 (dk_at dksX1_goesTogether_15 13 rfl rfl)
theorem dX1_goesTogether_363 : decode cX1_goesTogether 363 = .ok (.aload_n 0, 1) := dk_42 (dk_at dksX1_goesTogether_15 16 rfl rfl)
theorem dX1_goesTogether_364 : decode cX1_goesTogether 364 = .ok (.getfield 111, 3) := dk_180 0 111 (dk_at dksX1_goesTogether_15 17 rfl rfl)
theorem dX1_goesTogether_367 : decode cX1_goesTogether 367 = .ok (.aload_n 0, 1) := dk_42 (dk_at dksX1_goesTogether_15 20 rfl rfl)
theorem dX1_goesTogether_368 : decode cX1_goesTogether 368 = .ok (.getfield 111, 3) := dk_180 0 111 (dk_at dksX1_goesTogether_15 21 rfl rfl)
theorem dX1_goesTogether_371 : decode cX1_goesTogether 371 = .ok (.getfield 136, 3) := dk_180 0 136 (dk_at dksX1_goesTogether_16 0 rfl rfl)
theorem dX1_goesTogether_374 : decode cX1_goesTogether 374 = .ok (.getfield 164, 3) := dk_180 0 164 (dk_at dksX1_goesTogether_16 3 rfl rfl)
theorem dX1_goesTogether_377 : decode cX1_goesTogether 377 = .ok (.aload_n 0, 1) := dk_42 (dk_at dksX1_goesTogether_16 6 rfl rfl)
theorem dX1_goesTogether_378 : decode cX1_goesTogether 378 = .ok (.getfield 111, 3) := dk_180 0 111 (dk_at dksX1_goesTogether_16 7 rfl rfl)
theorem dX1_goesTogether_381 : decode cX1_goesTogether 381 = .ok (.getfield 136, 3) := dk_180 0 136 (dk_at dksX1_goesTogether_16 10 rfl rfl)
theorem dX1_goesTogether_384 : decode cX1_goesTogether 384 = .ok (.getfield 167, 3) := dk_180 0 167 (dk_at dksX1_goesTogether_16 13 rfl rfl)
theorem dX1_goesTogether_387 : decode cX1_goesTogether 387 = .ok (.aload_n 0, 1) := dk_42 (dk_at dksX1_goesTogether_16 16 rfl rfl)
theorem dX1_goesTogether_388 : decode cX1_goesTogether 388 = .ok (.getfield 111, 3) := dk_180 0 111 (dk_at dksX1_goesTogether_16 17 rfl rfl)
theorem dX1_goesTogether_391 : decode cX1_goesTogether 391 = .ok (.getfield 136, 3) := dk_180 0 136 (dk_at dksX1_goesTogether_16 20 rfl rfl)
theorem dX1_goesTogether_394 : decode cX1_goesTogether 394 = .ok (.getfield 146, 3) := dk_180 0 146 (dk_at dksX1_goesTogether_17 0 rfl rfl)
theorem dX1_goesTogether_397 : decode cX1_goesTogether 397 = .ok (.aload_n 0, 1) := dk_42 (dk_at dksX1_goesTogether_17 3 rfl rfl)
theorem dX1_goesTogether_398 : decode cX1_goesTogether 398 = .ok (.getfield 111, 3) := dk_180 0 111 (dk_at dksX1_goesTogether_17 4 rfl rfl)
theorem dX1_goesTogether_401 : decode cX1_goesTogether 401 = .ok (.getfield 170, 3) := dk_180 0 170 (dk_at dksX1_goesTogether_17 7 rfl rfl)
theorem dX1_goesTogether_404 : decode cX1_goesTogether 404 = .ok (.invokevirtual 173, 3) := dk_182 0 173 (dk_at dksX1_goesTogether_17 10 rfl rfl)
theorem dX1_goesTogether_407 : decode cX1_goesTogether 407 = .ok (.aload_n 0, 1) := dk_42 (dk_at dksX1_goesTogether_17 13 rfl rfl)
theorem dX1_goesTogether_408 : decode cX1_goesTogether 408 = .ok (.getfield 111, 3) := dk_180 0 111 (dk_at dksX1_goesTogether_17 14 rfl rfl)
theorem dX1_goesTogether_411 : decode cX1_goesTogether 411 = .ok (.getfield 170, 3) := dk_180 0 170 (dk_at dksX1_goesTogether_17 17 rfl rfl)
theorem dX1_goesTogether_414 : decode cX1_goesTogether 414 = .ok (.bipush 8, 2) := dk_16 8 (dk_at dksX1_goesTogether_17 20 rfl rfl)
theorem dX1_goesTogether_416 : decode cX1_goesTogether 416 = .ok (.invokevirtual 210, 3) := dk_182 0 210 (dk_at dksX1_goesTogether_18 0 rfl rfl)
theorem dX1_goesTogether_419 : decode cX1_goesTogether 419 = .ok (.lstore 12, 2) := dk_55 12 (dk_at dksX1_goesTogether_18 3 rfl rfl)
theorem dX1_goesTogether_421 : decode cX1_goesTogether 421 = .ok (.iload 5, 2) := dk_21 5 (dk_at dksX1_goesTogether_18 5 rfl rfl)
theorem dX1_goesTogether_423 : decode cX1_goesTogether 423 = .ok (.lload 12, 2) := dk_22 12 (dk_at dksX1_goesTogether_18 7 rfl rfl)
theorem dX1_goesTogether_425 : decode cX1_goesTogether 425 = .ok (.invokestatic 274, 3) := dk_184 1 18 (dk_at dksX1_goesTogether_18 9 rfl rfl)
theorem dX1_goesTogether_428 : decode cX1_goesTogether 428 = .ok (.ifCond .eq 67, 3) := dk_153 0 67 (dk_at dksX1_goesTogether_18 12 rfl rfl)
theorem dX1_goesTogether_431 : decode cX1_goesTogether 431 = .ok (.aload_n 0, 1) := dk_42 (dk_at dksX1_goesTogether_18 15 rfl rfl)
theorem dX1_goesTogether_432 : decode cX1_goesTogether 432 = .ok (.aload_n 0, 1) := dk_42 (dk_at dksX1_goesTogether_18 16 rfl rfl)
theorem dX1_goesTogether_433 : decode cX1_goesTogether 433 = .ok (.iload 11, 2) := dk_21 11 (dk_at dksX1_goesTogether_18 17 rfl rfl)
theorem dX1_goesTogether_435 : decode cX1_goesTogether 435 = .ok (.lload 12, 2) := dk_22 12 (dk_at dksX1_goesTogether_18 19 rfl rfl)
theorem dX1_goesTogether_437 : decode cX1_goesTogether 437 = .ok (.invokevirtual 285, 3) := dk_182 1 29 (dk_at dksX1_goesTogether_18 21 rfl rfl)
theorem dX1_goesTogether_440 : decode cX1_goesTogether 440 = .ok (.aload_n 0, 1) := dk_42 (dk_at dksX1_goesTogether_19 0 rfl rfl)
theorem dX1_goesTogether_441 : decode cX1_goesTogether 441 = .ok (.getfield 54, 3) := dk_180 0 54 (dk_at dksX1_goesTogether_19 1 rfl rfl)
theorem dX1_goesTogether_444 : decode cX1_goesTogether 444 = .ok (.invokevirtual 214, 3) := dk_182 0 214 (dk_at dksX1_goesTogether_19 4 rfl rfl)
theorem dX1_goesTogether_447 : decode cX1_goesTogether 447 = .ok (.ifCond .eq 48, 3) := dk_153 0 48 (dk_at dksX1_goesTogether_19 7 rfl rfl)
theorem dX1_goesTogether_450 : decode cX1_goesTogether 450 = .ok (.lload 12, 2) := dk_22 12 (dk_at dksX1_goesTogether_19 10 rfl rfl)
theorem dX1_goesTogether_452 : decode cX1_goesTogether 452 = .ok (.invokestatic 197, 3) := dk_184 0 197 (dk_at dksX1_goesTogether_19 12 rfl rfl)
theorem dX1_goesTogether_455 : decode cX1_goesTogether 455 = .ok (.aload_n 0, 1) := dk_42 (dk_at dksX1_goesTogether_19 15 rfl rfl)
theorem dX1_goesTogether_456 : decode cX1_goesTogether 456 = .ok (.getfield 207, 3) := dk_180 0 207 (dk_at dksX1_goesTogether_19 16 rfl rfl)
theorem dX1_goesTogether_459 : decode cX1_goesTogether 459 = .ok (.i2l, 1) := dk_133 (dk_at dksX1_goesTogether_19 19 rfl rfl)
theorem dX1_goesTogether_460 : decode cX1_goesTogether 460 = .ok (.ladd, 1) := dk_97 (dk_at dksX1_goesTogether_19 20 rfl rfl)
theorem dX1_goesTogether_461 : decode cX1_goesTogether 461 = .ok (.lload 9, 2) := dk_22 9 (dk_at dksX1_goesTogether_19 21 rfl rfl)
theorem dX1_goesTogether_463 : decode cX1_goesTogether 463 = .ok (.lcmp, 1) := dk_148 (dk_at dksX1_goesTogether_19 23 rfl rfl)
theorem dX1_goesTogether_464 : decode cX1_goesTogether 464 = .ok (.ifCond .ne 31, 3) := dk_154 0 31 (dk_at dksX1_goesTogether_20 0 rfl rfl)
theorem dX1_goesTogether_467 : decode cX1_goesTogether 467 = .ok (.aload_n 0, 1) := dk_42 (dk_at dksX1_goesTogether_20 3 rfl rfl)
theorem dX1_goesTogether_468 : decode cX1_goesTogether 468 = .ok (.iload 11, 2) := dk_21 11 (dk_at dksX1_goesTogether_20 4 rfl rfl)
theorem dX1_goesTogether_470 : decode cX1_goesTogether 470 = .ok (.aload_n 0, 1) := dk_42 (dk_at dksX1_goesTogether_20 6 rfl rfl)
theorem dX1_goesTogether_471 : decode cX1_goesTogether 471 = .ok (.getfield 58, 3) := dk_180 0 58 (dk_at dksX1_goesTogether_20 7 rfl rfl)
theorem dX1_goesTogether_474 : decode cX1_goesTogether 474 = .ok (.invokevirtual 214, 3) := dk_182 0 214 (dk_at dksX1_goesTogether_20 10 rfl rfl)
theorem dX1_goesTogether_477 : decode cX1_goesTogether 477 = .ok (.ifCond .eq 18, 3) := dk_153 0 18 (dk_at dksX1_goesTogether_20 13 rfl rfl)
theorem dX1_goesTogether_480 : decode cX1_goesTogether 480 = .ok (.aload_n 0, 1) := dk_42 (dk_at dksX1_goesTogether_20 16 rfl rfl)
theorem dX1_goesTogether_481 : decode cX1_goesTogether 481 = .ok (.getfield 58, 3) := dk_180 0 58 (dk_at dksX1_goesTogether_20 17 rfl rfl)
theorem dX1_goesTogether_484 : decode cX1_goesTogether 484 = .ok (.getfield 182, 3) := dk_180 0 182 (dk_at dksX1_goesTogether_20 20 rfl rfl)
theorem dX1_goesTogether_487 : decode cX1_goesTogether 487 = .ok (.iconst 1, 1) := dk_4 (dk_at dksX1_goesTogether_20 23 rfl rfl)
theorem dX1_goesTogether_488 : decode cX1_goesTogether 488 = .ok (.if_icmp .ne 7, 3) := dk_160 0 7 (dk_at dksX1_goesTogether_21 0 rfl rfl)
theorem dX1_goesTogether_491 : decode cX1_goesTogether 491 = .ok (.iconst 1, 1) := dk_4 (dk_at dksX1_goesTogether_21 3 rfl rfl)
theorem dX1_goesTogether_492 : decode cX1_goesTogether 492 = .ok (.goto 4, 3) := dk_167 0 4 (dk_at dksX1_goesTogether_21 4 rfl rfl)
theorem dX1_goesTogether_495 : decode cX1_goesTogether 495 = .ok (.iconst 0, 1) := dk_3 (dk_at dksX1_goesTogether_21 7 rfl rfl)
theorem dX1_goesTogether_496 : decode cX1_goesTogether 496 = .ok (.iand, 1) := dk_126 (dk_at dksX1_goesTogether_21 8 rfl rfl)
theorem dX1_goesTogether_497 : decode cX1_goesTogether 497 = .ok (.istore 5, 2) := dk_54 5 (dk_at dksX1_goesTogether_21 9 rfl rfl)
theorem dX1_goesTogether_499 : decode cX1_goesTogether 499 = .ok (.goto 37, 3) := dk_167 0 37 (dk_at dksX1_goesTogether_21 11 rfl rfl)
theorem dX1_goesTogether_502 : decode cX1_goesTogether 502 = .ok (.iload 5, 2) := dk_21 5 (dk_at dksX1_goesTogether_21 14 rfl rfl)
theorem dX1_goesTogether_504 : decode cX1_goesTogether 504 = .ok (.aload_n 0, 1) := dk_42 (dk_at dksX1_goesTogether_21 16 rfl rfl)
theorem dX1_goesTogether_505 : decode cX1_goesTogether 505 = .ok (.iload 11, 2) := dk_21 11 (dk_at dksX1_goesTogether_21 17 rfl rfl)
theorem dX1_goesTogether_507 : decode cX1_goesTogether 507 = .ok (.aload_n 0, 1) := dk_42 (dk_at dksX1_goesTogether_21 19 rfl rfl)
theorem dX1_goesTogether_508 : decode cX1_goesTogether 508 = .ok (.getfield 54, 3) := dk_180 0 54 (dk_at dksX1_goesTogether_21 20 rfl rfl)
theorem dX1_goesTogether_511 : decode cX1_goesTogether 511 = .ok (.invokevirtual 214, 3) := dk_182 0 214 (dk_at dksX1_goesTogether_22 0 rfl rfl)
theorem dX1_goesTogether_514 : decode cX1_goesTogether 514 = .ok (.ifCond .eq 18, 3) := dk_153 0 18 (dk_at dksX1_goesTogether_22 3 rfl rfl)
theorem dX1_goesTogether_517 : decode cX1_goesTogether 517 = .ok (.lload 9, 2) := dk_22 9 (dk_at dksX1_goesTogether_22 6 rfl rfl)
theorem dX1_goesTogether_519 : decode cX1_goesTogether 519 = .ok (.invokestatic 335, 3) := dk_184 1 79 (dk_at dksX1_goesTogether_22 8 rfl rfl)
theorem dX1_goesTogether_522 : decode cX1_goesTogether 522 = .ok (.invokestatic 274, 3) := dk_184 1 18 (dk_at dksX1_goesTogether_22 11 rfl rfl)
theorem dX1_goesTogether_525 : decode cX1_goesTogether 525 = .ok (.ifCond .eq 7, 3) := dk_153 0 7 (dk_at dksX1_goesTogether_22 14 rfl rfl)
theorem dX1_goesTogether_528 : decode cX1_goesTogether 528 = .ok (.iconst 1, 1) := dk_4 (dk_at dksX1_goesTogether_22 17 rfl rfl)
theorem dX1_goesTogether_529 : decode cX1_goesTogether 529 = .ok (.goto 4, 3) := dk_167 0 4 (dk_at dksX1_goesTogether_22 18 rfl rfl)
theorem dX1_goesTogether_532 : decode cX1_goesTogether 532 = .ok (.iconst 0, 1) := dk_3 (dk_at dksX1_goesTogether_22 21 rfl rfl)
theorem dX1_goesTogether_533 : decode cX1_goesTogether 533 = .ok (.iand, 1) := dk_126 (dk_at dksX1_goesTogether_22 22 rfl rfl)
theorem dX1_goesTogether_534 : decode cX1_goesTogether 534 = .ok (.istore 5, 2) := dk_54 5 (dk_at dksX1_goesTogether_23 0 rfl rfl)
theorem dX1_goesTogether_536 : decode cX1_goesTogether 536 = .ok (.aload_n 0, 1) := dk_42 (dk_at dksX1_goesTogether_23 2 rfl rfl)
theorem dX1_goesTogether_537 : decode cX1_goesTogether 537 = .ok (.getfield 111, 3) := dk_180 0 111 (dk_at dksX1_goesTogether_23 3 rfl rfl)
theorem dX1_goesTogether_540 : decode cX1_goesTogether 540 = .ok (.getfield 136, 3) := dk_180 0 136 (dk_at dksX1_goesTogether_23 6 rfl rfl)
theorem dX1_goesTogether_543 : decode cX1_goesTogether 543 = .ok (.lload 9, 2) := dk_22 9 (dk_at dksX1_goesTogether_23 9 rfl rfl)
theorem dX1_goesTogether_545 : decode cX1_goesTogether 545 = .ok (.ldc2_w 490, 3) := dk_20 1 234 (dk_at dksX1_goesTogether_23 11 rfl rfl)
theorem dX1_goesTogether_548 : decode cX1_goesTogether 548 = .ok (.lcmp, 1) := dk_148 (dk_at dksX1_goesTogether_23 14 rfl rfl)
theorem dX1_goesTogether_549 : decode cX1_goesTogether 549 = .ok (.ifCond .ne 10, 3) := dk_154 0 10 (dk_at dksX1_goesTogether_23 15 rfl rfl)
theorem dX1_goesTogether_552 : decode cX1_goesTogether 552 = .ok (.lload 7, 2) := dk_22 7 (dk_at dksX1_goesTogether_23 18 rfl rfl)
theorem dX1_goesTogether_554 : decode cX1_goesTogether 554 = .ok (.lconst 1, 1) := dk_10 (dk_at dksX1_goesTogether_23 20 rfl rfl)
theorem dX1_goesTogether_555 : decode cX1_goesTogether 555 = .ok (.ladd, 1) := dk_97 (dk_at dksX1_goesTogether_23 21 rfl rfl)
theorem dX1_goesTogether_556 : decode cX1_goesTogether 556 = .ok (.goto 5, 3) := dk_167 0 5 (dk_at dksX1_goesTogether_24 0 rfl rfl)
theorem dX1_goesTogether_559 : decode cX1_goesTogether 559 = .ok (.lload 7, 2) := dk_22 7 (dk_at dksX1_goesTogether_24 3 rfl rfl)
theorem dX1_goesTogether_561 : decode cX1_goesTogether 561 = .ok (.lload 9, 2) := dk_22 9 (dk_at dksX1_goesTogether_24 5 rfl rfl)
theorem dX1_goesTogether_563 : decode cX1_goesTogether 563 = .ok (.lconst 1, 1) := dk_10 (dk_at dksX1_goesTogether_24 7 rfl rfl)
theorem dX1_goesTogether_564 : decode cX1_goesTogether 564 = .ok (.ladd, 1) := dk_97 (dk_at dksX1_goesTogether_24 8 rfl rfl)
theorem dX1_goesTogether_565 : decode cX1_goesTogether 565 = .ok (.invokevirtual 140, 3) := dk_182 0 140 (dk_at dksX1_goesTogether_24 9 rfl rfl)
theorem dX1_goesTogether_568 : decode cX1_goesTogether 568 = .ok (.istore 6, 2) := dk_54 6 (dk_at dksX1_goesTogether_24 12 rfl rfl)
theorem dX1_goesTogether_570 : decode cX1_goesTogether 570 = .ok (.goto (-540), 3) := dk_167 253 228 (dk_at dksX1_goesTogether_24 14 rfl rfl)
theorem dX1_goesTogether_573 : decode cX1_goesTogether 573 = .ok (.iconst 0, 1) := dk_3 (dk_at dksX1_goesTogether_24 17 rfl rfl)
theorem dX1_goesTogether_574 : decode cX1_goesTogether 574 = .ok (.istore 7, 2) := dk_54 7 (dk_at dksX1_goesTogether_24 18 rfl rfl)
theorem dX1_goesTogether_576 : decode cX1_goesTogether 576 = .ok (.iload 7, 2) := dk_21 7 (dk_at dksX1_goesTogether_24 20 rfl rfl)
theorem dX1_goesTogether_578 : decode cX1_goesTogether 578 = .ok (.aload_n 0, 1) := dk_42 (dk_at dksX1_goesTogether_24 22 rfl rfl)
theorem dX1_goesTogether_579 : decode cX1_goesTogether 579 = .ok (.getfield 111, 3) := dk_180 0 111 (dk_at dksX1_goesTogether_25 0 rfl rfl)
theorem dX1_goesTogether_582 : decode cX1_goesTogether 582 = .ok (.getfield 439, 3) := dk_180 1 183 (dk_at dksX1_goesTogether_25 3 rfl rfl)
theorem dX1_goesTogether_585 : decode cX1_goesTogether 585 = .ok (.if_icmp .ge 61, 3) := dk_162 0 61 (dk_at dksX1_goesTogether_25 6 rfl rfl)
theorem dX1_goesTogether_588 : decode cX1_goesTogether 588 = .ok (.iload 5, 2) := dk_21 5 (dk_at dksX1_goesTogether_25 9 rfl rfl)
theorem dX1_goesTogether_590 : decode cX1_goesTogether 590 = .ok (.aload_n 0, 1) := dk_42 (dk_at dksX1_goesTogether_25 11 rfl rfl)
theorem dX1_goesTogether_591 : decode cX1_goesTogether 591 = .ok (.aload_n 0, 1) := dk_42 (dk_at dksX1_goesTogether_25 12 rfl rfl)
theorem dX1_goesTogether_592 : decode cX1_goesTogether 592 = .ok (.getfield 111, 3) := dk_180 0 111 (dk_at dksX1_goesTogether_25 13 rfl rfl)
theorem dX1_goesTogether_595 : decode cX1_goesTogether 595 = .ok (.getfield 442, 3) := dk_180 1 186 (dk_at dksX1_goesTogether_25 16 rfl rfl)
theorem dX1_goesTogether_598 : decode cX1_goesTogether 598 = .ok (.iload 7, 2) := dk_21 7 (dk_at dksX1_goesTogether_25 19 rfl rfl)
theorem dX1_goesTogether_600 : decode cX1_goesTogether 600 = .ok (.iaload, 1) := dk_46 (dk_at dksX1_goesTogether_25 21 rfl rfl)
theorem dX1_goesTogether_601 : decode cX1_goesTogether 601 = .ok (.aload_n 0, 1) := dk_42 (dk_at dksX1_goesTogether_25 22 rfl rfl)
theorem dX1_goesTogether_602 : decode cX1_goesTogether 602 = .ok (.getfield 54, 3) := dk_180 0 54 (dk_at dksX1_goesTogether_26 0 rfl rfl)
theorem dX1_goesTogether_605 : decode cX1_goesTogether 605 = .ok (.invokevirtual 214, 3) := dk_182 0 214 (dk_at dksX1_goesTogether_26 3 rfl rfl)
theorem dX1_goesTogether_608 : decode cX1_goesTogether 608 = .ok (.ifCond .eq 28, 3) := dk_153 0 28 (dk_at dksX1_goesTogether_26 6 rfl rfl)
theorem dX1_goesTogether_611 : decode cX1_goesTogether 611 = .ok (.aload_n 0, 1) := dk_42 (dk_at dksX1_goesTogether_26 9 rfl rfl)
theorem dX1_goesTogether_612 : decode cX1_goesTogether 612 = .ok (.getfield 54, 3) := dk_180 0 54 (dk_at dksX1_goesTogether_26 10 rfl rfl)
theorem dX1_goesTogether_615 : decode cX1_goesTogether 615 = .ok (.getfield 182, 3) := dk_180 0 182 (dk_at dksX1_goesTogether_26 13 rfl rfl)
theorem dX1_goesTogether_618 : decode cX1_goesTogether 618 = .ok (.iconst 2, 1) := dk_5 (dk_at dksX1_goesTogether_26 16 rfl rfl)
theorem dX1_goesTogether_619 : decode cX1_goesTogether 619 = .ok (.if_icmp .ne 17, 3) := dk_160 0 17 (dk_at dksX1_goesTogether_26 17 rfl rfl)
theorem dX1_goesTogether_622 : decode cX1_goesTogether 622 = .ok (.aload_n 0, 1) := dk_42 (dk_at dksX1_goesTogether_26 20 rfl rfl)
theorem dX1_goesTogether_623 : decode cX1_goesTogether 623 = .ok (.getfield 54, 3) := dk_180 0 54 (dk_at dksX1_goesTogether_26 21 rfl rfl)
theorem dX1_goesTogether_626 : decode cX1_goesTogether 626 = .ok (.getfield 185, 3) := dk_180 0 185 (dk_at dksX1_goesTogether_27 0 rfl rfl)
theorem dX1_goesTogether_629 : decode cX1_goesTogether 629 = .ok (.ifCond .ne 7, 3) := dk_154 0 7 (dk_at dksX1_goesTogether_27 3 rfl rfl)
theorem dX1_goesTogether_632 : decode cX1_goesTogether 632 = .ok (.iconst 1, 1) := dk_4 (dk_at dksX1_goesTogether_27 6 rfl rfl)
theorem dX1_goesTogether_633 : decode cX1_goesTogether 633 = .ok (.goto 4, 3) := dk_167 0 4 (dk_at dksX1_goesTogether_27 7 rfl rfl)
theorem dX1_goesTogether_636 : decode cX1_goesTogether 636 = .ok (.iconst 0, 1) := dk_3 (dk_at dksX1_goesTogether_27 10 rfl rfl)
theorem dX1_goesTogether_637 : decode cX1_goesTogether 637 = .ok (.iand, 1) := dk_126 (dk_at dksX1_goesTogether_27 11 rfl rfl)
theorem dX1_goesTogether_638 : decode cX1_goesTogether 638 = .ok (.istore 5, 2) := dk_54 5 (dk_at dksX1_goesTogether_27 12 rfl rfl)
theorem dX1_goesTogether_640 : decode cX1_goesTogether 640 = .ok (.iinc 7 1, 3) := dk_132 7 1 (dk_at dksX1_goesTogether_27 14 rfl rfl)
theorem dX1_goesTogether_643 : decode cX1_goesTogether 643 = .ok (.goto (-67), 3) := dk_167 255 189 (dk_at dksX1_goesTogether_27 17 rfl rfl)
theorem dX1_goesTogether_646 : decode cX1_goesTogether 646 = .ok (.iload 5, 2) := dk_21 5 (dk_at dksX1_goesTogether_27 20 rfl rfl)
theorem dX1_goesTogether_648 : decode cX1_goesTogether 648 = .ok (.ifCond .eq 45, 3) := dk_153 0 45 (dk_at dksX1_goesTogether_28 0 rfl rfl)
theorem dX1_goesTogether_651 : decode cX1_goesTogether 651 = .ok (.iload_n 1, 1) := dk_27 (dk_at dksX1_goesTogether_28 3 rfl rfl)
theorem dX1_goesTogether_652 : decode cX1_goesTogether 652 = .ok (.aload_n 0, 1) := dk_42 (dk_at dksX1_goesTogether_28 4 rfl rfl)
theorem dX1_goesTogether_653 : decode cX1_goesTogether 653 = .ok (.getfield 130, 3) := dk_180 0 130 (dk_at dksX1_goesTogether_28 5 rfl rfl)
theorem dX1_goesTogether_656 : decode cX1_goesTogether 656 = .ok (.if_icmp .ne 37, 3) := dk_160 0 37 (dk_at dksX1_goesTogether_28 8 rfl rfl)
theorem dX1_goesTogether_659 : decode cX1_goesTogether 659 = .ok (.iload_n 2, 1) := dk_28 (dk_at dksX1_goesTogether_28 11 rfl rfl)
theorem dX1_goesTogether_660 : decode cX1_goesTogether 660 = .ok (.aload_n 0, 1) := dk_42 (dk_at dksX1_goesTogether_28 12 rfl rfl)
theorem dX1_goesTogether_661 : decode cX1_goesTogether 661 = .ok (.getfield 133, 3) := dk_180 0 133 (dk_at dksX1_goesTogether_28 13 rfl rfl)
theorem dX1_goesTogether_664 : decode cX1_goesTogether 664 = .ok (.if_icmp .ne 29, 3) := dk_160 0 29 (dk_at dksX1_goesTogether_28 16 rfl rfl)
theorem dX1_goesTogether_667 : decode cX1_goesTogether 667 = .ok (.iload_n 3, 1) := dk_29 (dk_at dksX1_goesTogether_28 19 rfl rfl)
theorem dX1_goesTogether_668 : decode cX1_goesTogether 668 = .ok (.aload_n 0, 1) := dk_42 (dk_at dksX1_goesTogether_28 20 rfl rfl)
theorem dX1_goesTogether_669 : decode cX1_goesTogether 669 = .ok (.getfield 111, 3) := dk_180 0 111 (dk_at dksX1_goesTogether_28 21 rfl rfl)
theorem dX1_goesTogether_672 : decode cX1_goesTogether 672 = .ok (.getfield 439, 3) := dk_180 1 183 (dk_at dksX1_goesTogether_29 0 rfl rfl)
theorem dX1_goesTogether_675 : decode cX1_goesTogether 675 = .ok (.if_icmp .ne 18, 3) := dk_160 0 18 (dk_at dksX1_goesTogether_29 3 rfl rfl)
theorem dX1_goesTogether_678 : decode cX1_goesTogether 678 = .ok (.aload_n 0, 1) := dk_42 (dk_at dksX1_goesTogether_29 6 rfl rfl)
theorem dX1_goesTogether_679 : decode cX1_goesTogether 679 = .ok (.getfield 130, 3) := dk_180 0 130 (dk_at dksX1_goesTogether_29 7 rfl rfl)
theorem dX1_goesTogether_682 : decode cX1_goesTogether 682 = .ok (.aload_n 0, 1) := dk_42 (dk_at dksX1_goesTogether_29 10 rfl rfl)
theorem dX1_goesTogether_683 : decode cX1_goesTogether 683 = .ok (.getfield 121, 3) := dk_180 0 121 (dk_at dksX1_goesTogether_29 11 rfl rfl)
theorem dX1_goesTogether_686 : decode cX1_goesTogether 686 = .ok (.if_icmp .gt 7, 3) := dk_163 0 7 (dk_at dksX1_goesTogether_29 14 rfl rfl)
theorem dX1_goesTogether_689 : decode cX1_goesTogether 689 = .ok (.iconst 1, 1) := dk_4 (dk_at dksX1_goesTogether_29 17 rfl rfl)
theorem dX1_goesTogether_690 : decode cX1_goesTogether 690 = .ok (.goto 4, 3) := dk_167 0 4 (dk_at dksX1_goesTogether_29 18 rfl rfl)
theorem dX1_goesTogether_693 : decode cX1_goesTogether 693 = .ok (.iconst 0, 1) := dk_3 (dk_at dksX1_goesTogether_29 21 rfl rfl)
theorem dX1_goesTogether_694 : decode cX1_goesTogether 694 = .ok (.ireturn, 1) := dk_172 (dk_at dksX1_goesTogether_29 22 rfl rfl)
abbrev cX1_many : ByteArray := prog_1_method_91_code
def yX1_many : MethodName := ⟨RX1, "many", "(II)I"⟩
def dkwX1_many_2 : List UInt8 := [180, 0, 111, 180, 0, 136, 182, 0, 153, 54, 6, 167, 255, 221, 21, 5, 172]
abbrev dktX1_many_2 : List UInt8 := dkwX1_many_2 ++ []
def dkwX1_many_1 : List UInt8 := [21, 6, 153, 0, 36, 42, 180, 0, 111, 180, 0, 136, 180, 0, 149, 33, 148, 154, 0, 21, 132, 5, 1, 42]
abbrev dktX1_many_1 : List UInt8 := dkwX1_many_1 ++ dktX1_many_2
def dkwX1_many_0 : List UInt8 := [27, 28, 184, 0, 157, 66, 3, 54, 5, 42, 180, 0, 111, 180, 0, 136, 33, 9, 182, 0, 140, 54, 6]
abbrev dktX1_many_0 : List UInt8 := dkwX1_many_0 ++ dktX1_many_1
theorem dksX1_many_0 : cX1_many.data.toList.drop 0 = dktX1_many_0 := by decide +kernel
theorem dksX1_many_1 : cX1_many.data.toList.drop 23 = dktX1_many_1 := dk_seg dksX1_many_0 23 rfl rfl
theorem dksX1_many_2 : cX1_many.data.toList.drop 47 = dktX1_many_2 := dk_seg dksX1_many_1 24 rfl rfl
theorem dX1_many_0 : decode cX1_many 0 = .ok (.iload_n 1, 1) := dk_27 (dk_at dksX1_many_0 0 rfl rfl)
theorem dX1_many_1 : decode cX1_many 1 = .ok (.iload_n 2, 1) := dk_28 (dk_at dksX1_many_0 1 rfl rfl)
theorem dX1_many_2 : decode cX1_many 2 = .ok (.invokestatic 157, 3) := dk_184 0 157 (dk_at dksX1_many_0 2 rfl rfl)
theorem dX1_many_5 : decode cX1_many 5 = .ok (.lstore_n 3, 1) := dk_66 (dk_at dksX1_many_0 5 rfl rfl)
theorem dX1_many_6 : decode cX1_many 6 = .ok (.iconst 0, 1) := dk_3 (dk_at dksX1_many_0 6 rfl rfl)
theorem dX1_many_7 : decode cX1_many 7 = .ok (.istore 5, 2) := dk_54 5 (dk_at dksX1_many_0 7 rfl rfl)
theorem dX1_many_9 : decode cX1_many 9 = .ok (.aload_n 0, 1) := dk_42 (dk_at dksX1_many_0 9 rfl rfl)
theorem dX1_many_10 : decode cX1_many 10 = .ok (.getfield 111, 3) := dk_180 0 111 (dk_at dksX1_many_0 10 rfl rfl)
theorem dX1_many_13 : decode cX1_many 13 = .ok (.getfield 136, 3) := dk_180 0 136 (dk_at dksX1_many_0 13 rfl rfl)
theorem dX1_many_16 : decode cX1_many 16 = .ok (.lload_n 3, 1) := dk_33 (dk_at dksX1_many_0 16 rfl rfl)
theorem dX1_many_17 : decode cX1_many 17 = .ok (.lconst 0, 1) := dk_9 (dk_at dksX1_many_0 17 rfl rfl)
theorem dX1_many_18 : decode cX1_many 18 = .ok (.invokevirtual 140, 3) := dk_182 0 140 (dk_at dksX1_many_0 18 rfl rfl)
theorem dX1_many_21 : decode cX1_many 21 = .ok (.istore 6, 2) := dk_54 6 (dk_at dksX1_many_0 21 rfl rfl)
theorem dX1_many_23 : decode cX1_many 23 = .ok (.iload 6, 2) := dk_21 6 (dk_at dksX1_many_1 0 rfl rfl)
theorem dX1_many_25 : decode cX1_many 25 = .ok (.ifCond .eq 36, 3) := dk_153 0 36 (dk_at dksX1_many_1 2 rfl rfl)
theorem dX1_many_28 : decode cX1_many 28 = .ok (.aload_n 0, 1) := dk_42 (dk_at dksX1_many_1 5 rfl rfl)
theorem dX1_many_29 : decode cX1_many 29 = .ok (.getfield 111, 3) := dk_180 0 111 (dk_at dksX1_many_1 6 rfl rfl)
theorem dX1_many_32 : decode cX1_many 32 = .ok (.getfield 136, 3) := dk_180 0 136 (dk_at dksX1_many_1 9 rfl rfl)
theorem dX1_many_35 : decode cX1_many 35 = .ok (.getfield 149, 3) := dk_180 0 149 (dk_at dksX1_many_1 12 rfl rfl)
theorem dX1_many_38 : decode cX1_many 38 = .ok (.lload_n 3, 1) := dk_33 (dk_at dksX1_many_1 15 rfl rfl)
theorem dX1_many_39 : decode cX1_many 39 = .ok (.lcmp, 1) := dk_148 (dk_at dksX1_many_1 16 rfl rfl)
theorem dX1_many_40 : decode cX1_many 40 = .ok (.ifCond .ne 21, 3) := dk_154 0 21 (dk_at dksX1_many_1 17 rfl rfl)
theorem dX1_many_43 : decode cX1_many 43 = .ok (.iinc 5 1, 3) := dk_132 5 1 (dk_at dksX1_many_1 20 rfl rfl)
theorem dX1_many_46 : decode cX1_many 46 = .ok (.aload_n 0, 1) := dk_42 (dk_at dksX1_many_1 23 rfl rfl)
theorem dX1_many_47 : decode cX1_many 47 = .ok (.getfield 111, 3) := dk_180 0 111 (dk_at dksX1_many_2 0 rfl rfl)
theorem dX1_many_50 : decode cX1_many 50 = .ok (.getfield 136, 3) := dk_180 0 136 (dk_at dksX1_many_2 3 rfl rfl)
theorem dX1_many_53 : decode cX1_many 53 = .ok (.invokevirtual 153, 3) := dk_182 0 153 (dk_at dksX1_many_2 6 rfl rfl)
theorem dX1_many_56 : decode cX1_many 56 = .ok (.istore 6, 2) := dk_54 6 (dk_at dksX1_many_2 9 rfl rfl)
theorem dX1_many_58 : decode cX1_many 58 = .ok (.goto (-35), 3) := dk_167 255 221 (dk_at dksX1_many_2 11 rfl rfl)
theorem dX1_many_61 : decode cX1_many 61 = .ok (.iload 5, 2) := dk_21 5 (dk_at dksX1_many_2 14 rfl rfl)
theorem dX1_many_63 : decode cX1_many 63 = .ok (.ireturn, 1) := dk_172 (dk_at dksX1_many_2 16 rfl rfl)
abbrev cX1_linksOf : ByteArray := prog_1_method_92_code
def yX1_linksOf : MethodName := ⟨RX1, "linksOf", "(II)I"⟩
def dkwX1_linksOf_1 : List UInt8 := [167, 0, 4, 3, 96, 62, 132, 4, 1, 167, 255, 228, 29, 172]
abbrev dktX1_linksOf_1 : List UInt8 := dkwX1_linksOf_1 ++ []
def dkwX1_linksOf_0 : List UInt8 := [3, 62, 3, 54, 4, 21, 4, 28, 162, 0, 28, 29, 42, 180, 0, 74, 21, 4, 46, 27, 160, 0, 7, 4]
abbrev dktX1_linksOf_0 : List UInt8 := dkwX1_linksOf_0 ++ dktX1_linksOf_1
theorem dksX1_linksOf_0 : cX1_linksOf.data.toList.drop 0 = dktX1_linksOf_0 := by decide +kernel
theorem dksX1_linksOf_1 : cX1_linksOf.data.toList.drop 24 = dktX1_linksOf_1 := dk_seg dksX1_linksOf_0 24 rfl rfl
theorem dX1_linksOf_0 : decode cX1_linksOf 0 = .ok (.iconst 0, 1) := dk_3 (dk_at dksX1_linksOf_0 0 rfl rfl)
theorem dX1_linksOf_1 : decode cX1_linksOf 1 = .ok (.istore_n 3, 1) := dk_62 (dk_at dksX1_linksOf_0 1 rfl rfl)
theorem dX1_linksOf_2 : decode cX1_linksOf 2 = .ok (.iconst 0, 1) := dk_3 (dk_at dksX1_linksOf_0 2 rfl rfl)
theorem dX1_linksOf_3 : decode cX1_linksOf 3 = .ok (.istore 4, 2) := dk_54 4 (dk_at dksX1_linksOf_0 3 rfl rfl)
theorem dX1_linksOf_5 : decode cX1_linksOf 5 = .ok (.iload 4, 2) := dk_21 4 (dk_at dksX1_linksOf_0 5 rfl rfl)
theorem dX1_linksOf_7 : decode cX1_linksOf 7 = .ok (.iload_n 2, 1) := dk_28 (dk_at dksX1_linksOf_0 7 rfl rfl)
theorem dX1_linksOf_8 : decode cX1_linksOf 8 = .ok (.if_icmp .ge 28, 3) := dk_162 0 28 (dk_at dksX1_linksOf_0 8 rfl rfl)
theorem dX1_linksOf_11 : decode cX1_linksOf 11 = .ok (.iload_n 3, 1) := dk_29 (dk_at dksX1_linksOf_0 11 rfl rfl)
theorem dX1_linksOf_12 : decode cX1_linksOf 12 = .ok (.aload_n 0, 1) := dk_42 (dk_at dksX1_linksOf_0 12 rfl rfl)
theorem dX1_linksOf_13 : decode cX1_linksOf 13 = .ok (.getfield 74, 3) := dk_180 0 74 (dk_at dksX1_linksOf_0 13 rfl rfl)
theorem dX1_linksOf_16 : decode cX1_linksOf 16 = .ok (.iload 4, 2) := dk_21 4 (dk_at dksX1_linksOf_0 16 rfl rfl)
theorem dX1_linksOf_18 : decode cX1_linksOf 18 = .ok (.iaload, 1) := dk_46 (dk_at dksX1_linksOf_0 18 rfl rfl)
theorem dX1_linksOf_19 : decode cX1_linksOf 19 = .ok (.iload_n 1, 1) := dk_27 (dk_at dksX1_linksOf_0 19 rfl rfl)
theorem dX1_linksOf_20 : decode cX1_linksOf 20 = .ok (.if_icmp .ne 7, 3) := dk_160 0 7 (dk_at dksX1_linksOf_0 20 rfl rfl)
theorem dX1_linksOf_23 : decode cX1_linksOf 23 = .ok (.iconst 1, 1) := dk_4 (dk_at dksX1_linksOf_0 23 rfl rfl)
theorem dX1_linksOf_24 : decode cX1_linksOf 24 = .ok (.goto 4, 3) := dk_167 0 4 (dk_at dksX1_linksOf_1 0 rfl rfl)
theorem dX1_linksOf_27 : decode cX1_linksOf 27 = .ok (.iconst 0, 1) := dk_3 (dk_at dksX1_linksOf_1 3 rfl rfl)
theorem dX1_linksOf_28 : decode cX1_linksOf 28 = .ok (.iadd, 1) := dk_96 (dk_at dksX1_linksOf_1 4 rfl rfl)
theorem dX1_linksOf_29 : decode cX1_linksOf 29 = .ok (.istore_n 3, 1) := dk_62 (dk_at dksX1_linksOf_1 5 rfl rfl)
theorem dX1_linksOf_30 : decode cX1_linksOf 30 = .ok (.iinc 4 1, 3) := dk_132 4 1 (dk_at dksX1_linksOf_1 6 rfl rfl)
theorem dX1_linksOf_33 : decode cX1_linksOf 33 = .ok (.goto (-28), 3) := dk_167 255 228 (dk_at dksX1_linksOf_1 9 rfl rfl)
theorem dX1_linksOf_36 : decode cX1_linksOf 36 = .ok (.iload_n 3, 1) := dk_29 (dk_at dksX1_linksOf_1 12 rfl rfl)
theorem dX1_linksOf_37 : decode cX1_linksOf 37 = .ok (.ireturn, 1) := dk_172 (dk_at dksX1_linksOf_1 13 rfl rfl)
theorem q131 : (Jvm.Cond.initialized "NandHouse") ∈ lw_all := lw_g (lw_at lw_m1 1 rfl) rfl
theorem q152 : (Jvm.Cond.instantiable "NandHouse" (30 : Nat)) ∈ lw_all := lw_g (lw_at lw_m1 22 rfl) rfl
theorem q154 : (Jvm.Cond.instanceMethod ({ cls := "NandHouse", name := "<init>", desc := "(III)V" } : Jvm.MethodName)) ∈ lw_all := lw_g (lw_at lw_m1 24 rfl) rfl
theorem q155 : (Jvm.Cond.code ({ cls := "NandHouse", name := "<init>", desc := "(III)V" } : Jvm.MethodName) prog_1_method_11_code (6 : Nat) (Option.none : Option Jvm.ClassFile.FieldType)) ∈ lw_all := lw_g (lw_at lw_m1 25 rfl) rfl
theorem q156 : (Jvm.Cond.methodLink "NandHouse" (22 : Nat) ({ cls := "java/lang/Object", name := "<init>", desc := "()V" } : Jvm.MethodName)) ∈ lw_all := lw_g (lw_at lw_m1 26 rfl) rfl
theorem q159 : (Jvm.Cond.classLink "NandHouse" (35 : Nat) "NandHouse$Row") ∈ lw_all := lw_g (lw_at lw_m1 29 rfl) rfl
theorem q161 : (Jvm.Cond.methodLink "NandHouse" (37 : Nat) ({ cls := "NandHouse$Row", name := "<init>", desc := "(I)V" } : Jvm.MethodName)) ∈ lw_all := lw_g (lw_at lw_m1 31 rfl) rfl
theorem q167 : (Jvm.Cond.fieldLink "NandHouse" (377 : Nat) "NandHouse$Row" "bytes" "[B") ∈ lw_all := lw_g (lw_at lw_m1 37 rfl) rfl
theorem q170 : (Jvm.Cond.fieldLink "NandHouse" (242 : Nat) "NandHouse$Row" "at" "I") ∈ lw_all := lw_g (lw_at lw_m1 40 rfl) rfl
theorem q173 : (Jvm.Cond.fieldLink "NandHouse" (239 : Nat) "NandHouse$Row" "end" "I") ∈ lw_all := lw_g (lw_at lw_m1 43 rfl) rfl
theorem q183 : (Jvm.Cond.classLink "NandHouse" (51 : Nat) "NandHouse$Inode") ∈ lw_all := lw_g (lw_at lw_m1 53 rfl) rfl
theorem q185 : (Jvm.Cond.methodLinkNest "NandHouse" (53 : Nat) ({ cls := "NandHouse$Inode", name := "<init>", desc := "()V" } : Jvm.MethodName) "NandHouse") ∈ lw_tbl := lw_at lw_m1 55 rfl
theorem q189 : (Jvm.Cond.fieldLink "NandHouse" (177 : Nat) "NandHouse$Inode" "number" "I") ∈ lw_all := lw_g (lw_at lw_m1 59 rfl) rfl
theorem q190 : (Jvm.Cond.fieldLink "NandHouse" (182 : Nat) "NandHouse$Inode" "kind" "I") ∈ lw_all := lw_g (lw_at lw_m1 60 rfl) rfl
theorem q191 : (Jvm.Cond.fieldLink "NandHouse" (185 : Nat) "NandHouse$Inode" "links" "I") ∈ lw_all := lw_g (lw_at lw_m1 61 rfl) rfl
theorem q192 : (Jvm.Cond.fieldLink "NandHouse" (188 : Nat) "NandHouse$Inode" "size" "I") ∈ lw_all := lw_g (lw_at lw_m1 62 rfl) rfl
theorem q193 : (Jvm.Cond.fieldLink "NandHouse" (189 : Nat) "NandHouse$Inode" "entries" "I") ∈ lw_all := lw_g (lw_at lw_m1 63 rfl) rfl
theorem q194 : (Jvm.Cond.fieldLink "NandHouse" (192 : Nat) "NandHouse$Inode" "attributes" "I") ∈ lw_all := lw_g (lw_at lw_m1 64 rfl) rfl
theorem q208 : (Jvm.Cond.methodLink "NandHouse" (89 : Nat) ({ cls := "NandHouse", name := "isIn", desc := "(III)Z" } : Jvm.MethodName)) ∈ lw_all := lw_g (lw_at lw_m1 78 rfl) rfl
theorem q209 : (Jvm.Cond.static ({ cls := "NandHouse", name := "isIn", desc := "(III)Z" } : Jvm.MethodName)) ∈ lw_all := lw_g (lw_at lw_m1 79 rfl) rfl
theorem q210 : (Jvm.Cond.code ({ cls := "NandHouse", name := "isIn", desc := "(III)Z" } : Jvm.MethodName) prog_1_method_1_code (3 : Nat) (Option.some Jvm.ClassFile.FieldType.boolean)) ∈ lw_all := lw_g (lw_at lw_m1 80 rfl) rfl
theorem q211 : (Jvm.Cond.classLink "NandHouse" (93 : Nat) "NandHouse$Flash") ∈ lw_all := lw_g (lw_at lw_m1 81 rfl) rfl
theorem q213 : (Jvm.Cond.methodLink "NandHouse" (95 : Nat) ({ cls := "NandHouse$Flash", name := "<init>", desc := "(II)V" } : Jvm.MethodName)) ∈ lw_all := lw_g (lw_at lw_m1 83 rfl) rfl
theorem q253 : (Jvm.Cond.classLink "NandHouse" (106 : Nat) "NandHouse$Store") ∈ lw_all := lw_g (lw_at lw_m1 123 rfl) rfl
theorem q255 : (Jvm.Cond.methodLink "NandHouse" (108 : Nat) ({ cls := "NandHouse$Store", name := "<init>", desc := "(LNandHouse$Flash;I)V" } : Jvm.MethodName)) ∈ lw_all := lw_g (lw_at lw_m1 125 rfl) rfl
theorem q364 : (Jvm.Cond.static ({ cls := "NandHouse", name := "eights", desc := "(I)I" } : Jvm.MethodName)) ∈ lw_all := lw_g (lw_at lw_m1 234 rfl) rfl
theorem q365 : (Jvm.Cond.code ({ cls := "NandHouse", name := "eights", desc := "(I)I" } : Jvm.MethodName) prog_1_method_2_code (1 : Nat) (Option.some Jvm.ClassFile.FieldType.int)) ∈ lw_all := lw_g (lw_at lw_m1 235 rfl) rfl
theorem q454 : (Jvm.Cond.fieldLink "NandHouse" (149 : Nat) "NandHouse$Index" "high" "J") ∈ lw_all := lw_g (lw_at lw_m2 84 rfl) rfl
theorem q457 : (Jvm.Cond.fieldLink "NandHouse" (204 : Nat) "NandHouse$Index" "low" "J") ∈ lw_all := lw_g (lw_at lw_m2 87 rfl) rfl
theorem q460 : (Jvm.Cond.fieldLink "NandHouse" (164 : Nat) "NandHouse$Index" "number" "I") ∈ lw_all := lw_g (lw_at lw_m2 90 rfl) rfl
theorem q463 : (Jvm.Cond.fieldLink "NandHouse" (167 : Nat) "NandHouse$Index" "place" "I") ∈ lw_all := lw_g (lw_at lw_m2 93 rfl) rfl
theorem q466 : (Jvm.Cond.fieldLink "NandHouse" (146 : Nat) "NandHouse$Index" "size" "I") ∈ lw_all := lw_g (lw_at lw_m2 96 rfl) rfl
theorem q524 : (Jvm.Cond.fieldLink "NandHouse" (404 : Nat) "NandHouse$Store" "blocks" "LNandHouse$Blocks;") ∈ lw_all := lw_g (lw_at lw_m2 154 rfl) rfl
theorem q527 : (Jvm.Cond.fieldLink "NandHouse" (136 : Nat) "NandHouse$Store" "index" "LNandHouse$Index;") ∈ lw_all := lw_g (lw_at lw_m2 157 rfl) rfl
theorem q532 : (Jvm.Cond.fieldLink "NandHouse" (170 : Nat) "NandHouse$Store" "node" "LNandHouse$Row;") ∈ lw_all := lw_g (lw_at lw_m2 162 rfl) rfl
theorem q538 : (Jvm.Cond.fieldLink "NandHouse" (292 : Nat) "NandHouse$Store" "next" "I") ∈ lw_all := lw_g (lw_at lw_m2 168 rfl) rfl
theorem q541 : (Jvm.Cond.fieldLink "NandHouse" (425 : Nat) "NandHouse$Store" "waits" "I") ∈ lw_all := lw_g (lw_at lw_m2 171 rfl) rfl
theorem q543 : (Jvm.Cond.fieldLink "NandHouse" (249 : Nat) "NandHouse$Store" "groupNumber" "I") ∈ lw_all := lw_g (lw_at lw_m2 173 rfl) rfl
theorem q545 : (Jvm.Cond.fieldLink "NandHouse" (252 : Nat) "NandHouse$Store" "groupPlace" "I") ∈ lw_all := lw_g (lw_at lw_m2 175 rfl) rfl
theorem q556 : (Jvm.Cond.fieldLink "NandHouse" (442 : Nat) "NandHouse$Store" "orphans" "[I") ∈ lw_all := lw_g (lw_at lw_m2 186 rfl) rfl
theorem q558 : (Jvm.Cond.fieldLink "NandHouse" (439 : Nat) "NandHouse$Store" "orphanCount" "I") ∈ lw_all := lw_g (lw_at lw_m2 188 rfl) rfl
theorem q644 : (Jvm.Cond.methodLink "NandHouse" (124 : Nat) ({ cls := "NandHouse$Store", name := "format", desc := "()V" } : Jvm.MethodName)) ∈ lw_all := lw_g (lw_at lw_m3 34 rfl) rfl
theorem q686 : (Jvm.Cond.static ({ cls := "NandHouse", name := "putInt", desc := "([BII)V" } : Jvm.MethodName)) ∈ lw_all := lw_g (lw_at lw_m3 76 rfl) rfl
theorem q687 : (Jvm.Cond.code ({ cls := "NandHouse", name := "putInt", desc := "([BII)V" } : Jvm.MethodName) prog_1_method_5_code (4 : Nat) (Option.none : Option Jvm.ClassFile.FieldType)) ∈ lw_all := lw_g (lw_at lw_m3 77 rfl) rfl
theorem q689 : (Jvm.Cond.static ({ cls := "NandHouse", name := "check", desc := "(I[BII)I" } : Jvm.MethodName)) ∈ lw_all := lw_g (lw_at lw_m3 79 rfl) rfl
theorem q690 : (Jvm.Cond.code ({ cls := "NandHouse", name := "check", desc := "(I[BII)I" } : Jvm.MethodName) prog_1_method_4_code (6 : Nat) (Option.some Jvm.ClassFile.FieldType.int)) ∈ lw_all := lw_g (lw_at lw_m3 80 rfl) rfl
theorem q691 : (Jvm.Cond.fieldLink "NandHouse" (2 : Nat) "NandHouse" "TURNS" "[I") ∈ lw_all := lw_g (lw_at lw_m3 81 rfl) rfl
theorem q692 : (Jvm.Cond.laysStatic "NandHouse" "TURNS" "[I") ∈ lw_tbl := lw_at lw_m3 82 rfl
theorem q760 : (Jvm.Cond.static ({ cls := "NandHouse", name := "putLong", desc := "([BIJ)V" } : Jvm.MethodName)) ∈ lw_all := lw_g (lw_at lw_m3 150 rfl) rfl
theorem q761 : (Jvm.Cond.code ({ cls := "NandHouse", name := "putLong", desc := "([BIJ)V" } : Jvm.MethodName) prog_1_method_7_code (4 : Nat) (Option.none : Option Jvm.ClassFile.FieldType)) ∈ lw_all := lw_g (lw_at lw_m3 151 rfl) rfl
theorem q762 : (Jvm.Cond.methodLink "NandHouse" (8 : Nat) ({ cls := "NandHouse", name := "putInt", desc := "([BII)V" } : Jvm.MethodName)) ∈ lw_all := lw_g (lw_at lw_m3 152 rfl) rfl
theorem q768 : (Jvm.Cond.static ({ cls := "NandHouse", name := "getInt", desc := "([BI)I" } : Jvm.MethodName)) ∈ lw_all := lw_g (lw_at lw_m3 158 rfl) rfl
theorem q769 : (Jvm.Cond.code ({ cls := "NandHouse", name := "getInt", desc := "([BI)I" } : Jvm.MethodName) prog_1_method_6_code (4 : Nat) (Option.some Jvm.ClassFile.FieldType.int)) ∈ lw_all := lw_g (lw_at lw_m3 159 rfl) rfl
theorem q894 : (Jvm.Cond.static ({ cls := "NandHouse", name := "keyOf", desc := "(II)J" } : Jvm.MethodName)) ∈ lw_all := lw_g (lw_at lw_m4 44 rfl) rfl
theorem q895 : (Jvm.Cond.code ({ cls := "NandHouse", name := "keyOf", desc := "(II)J" } : Jvm.MethodName) prog_1_method_9_code (2 : Nat) (Option.some Jvm.ClassFile.FieldType.long)) ∈ lw_all := lw_g (lw_at lw_m4 45 rfl) rfl
theorem q896 : (Jvm.Cond.constantLong "NandHouse" (18 : Nat) (4 : Int64)) ∈ lw_all := lw_g (lw_at lw_m4 46 rfl) rfl
theorem q1060 : (Jvm.Cond.methodLink "NandHouse" (127 : Nat) ({ cls := "NandHouse", name := "count", desc := "()V" } : Jvm.MethodName)) ∈ lw_all := lw_g (lw_at lw_m4 210 rfl) rfl
theorem q1061 : (Jvm.Cond.privateMethod ({ cls := "NandHouse", name := "count", desc := "()V" } : Jvm.MethodName)) ∈ lw_tbl := lw_at lw_m4 211 rfl
theorem q1062 : (Jvm.Cond.instanceMethod ({ cls := "NandHouse", name := "count", desc := "()V" } : Jvm.MethodName)) ∈ lw_all := lw_g (lw_at lw_m4 212 rfl) rfl
theorem q1063 : (Jvm.Cond.code ({ cls := "NandHouse", name := "count", desc := "()V" } : Jvm.MethodName) prog_1_method_12_code (2 : Nat) (Option.none : Option Jvm.ClassFile.FieldType)) ∈ lw_all := lw_g (lw_at lw_m4 213 rfl) rfl
theorem q1064 : (Jvm.Cond.methodLink "NandHouse" (140 : Nat) ({ cls := "NandHouse$Index", name := "seek", desc := "(JJ)Z" } : Jvm.MethodName)) ∈ lw_all := lw_g (lw_at lw_m4 214 rfl) rfl
theorem q1065 : (Jvm.Cond.methodLink "NandHouse" (153 : Nat) ({ cls := "NandHouse$Index", name := "next", desc := "()Z" } : Jvm.MethodName)) ∈ lw_all := lw_g (lw_at lw_m4 215 rfl) rfl
theorem q1070 : (Jvm.Cond.fieldLink "NandHouse" (98 : Nat) "NandHouse" "flash" "LNandHouse$Flash;") ∈ lw_all := lw_g (lw_at lw_m4 220 rfl) rfl
theorem q1071 : (Jvm.Cond.fieldLink "NandHouse" (111 : Nat) "NandHouse" "store" "LNandHouse$Store;") ∈ lw_all := lw_g (lw_at lw_m4 221 rfl) rfl
theorem q1072 : (Jvm.Cond.fieldLink "NandHouse" (115 : Nat) "NandHouse" "probe" "LNandHouse$Store;") ∈ lw_all := lw_g (lw_at lw_m4 222 rfl) rfl
theorem q1073 : (Jvm.Cond.fieldLink "NandHouse" (118 : Nat) "NandHouse" "sums" "[I") ∈ lw_all := lw_g (lw_at lw_m4 223 rfl) rfl
theorem q1074 : (Jvm.Cond.fieldLink "NandHouse" (121 : Nat) "NandHouse" "capacity" "I") ∈ lw_all := lw_g (lw_at lw_m4 224 rfl) rfl
theorem q1075 : (Jvm.Cond.fieldLink "NandHouse" (28 : Nat) "NandHouse" "isOn" "Z") ∈ lw_all := lw_g (lw_at lw_m4 225 rfl) rfl
theorem q1076 : (Jvm.Cond.fieldLink "NandHouse" (32 : Nat) "NandHouse" "handles" "[I") ∈ lw_all := lw_g (lw_at lw_m4 226 rfl) rfl
theorem q1077 : (Jvm.Cond.fieldLink "NandHouse" (130 : Nat) "NandHouse" "live" "I") ∈ lw_all := lw_g (lw_at lw_m4 227 rfl) rfl
theorem q1078 : (Jvm.Cond.fieldLink "NandHouse" (133 : Nat) "NandHouse" "things" "I") ∈ lw_all := lw_g (lw_at lw_m4 228 rfl) rfl
theorem q1079 : (Jvm.Cond.fieldLink "NandHouse" (454 : Nat) "NandHouse" "fails" "I") ∈ lw_all := lw_g (lw_at lw_m4 229 rfl) rfl
theorem q1080 : (Jvm.Cond.fieldLink "NandHouse" (460 : Nat) "NandHouse" "flips" "I") ∈ lw_all := lw_g (lw_at lw_m4 230 rfl) rfl
theorem q1081 : (Jvm.Cond.fieldLink "NandHouse" (40 : Nat) "NandHouse" "group" "LNandHouse$Row;") ∈ lw_all := lw_g (lw_at lw_m4 231 rfl) rfl
theorem q1082 : (Jvm.Cond.fieldLink "NandHouse" (44 : Nat) "NandHouse" "old" "LNandHouse$Row;") ∈ lw_all := lw_g (lw_at lw_m4 232 rfl) rfl
theorem q1083 : (Jvm.Cond.fieldLink "NandHouse" (47 : Nat) "NandHouse" "bytes" "[B") ∈ lw_all := lw_g (lw_at lw_m4 233 rfl) rfl
theorem q1084 : (Jvm.Cond.fieldLink "NandHouse" (54 : Nat) "NandHouse" "one" "LNandHouse$Inode;") ∈ lw_all := lw_g (lw_at lw_m4 234 rfl) rfl
theorem q1085 : (Jvm.Cond.fieldLink "NandHouse" (58 : Nat) "NandHouse" "other" "LNandHouse$Inode;") ∈ lw_all := lw_g (lw_at lw_m4 235 rfl) rfl
theorem q1086 : (Jvm.Cond.fieldLink "NandHouse" (61 : Nat) "NandHouse" "third" "LNandHouse$Inode;") ∈ lw_all := lw_g (lw_at lw_m4 236 rfl) rfl
theorem q1087 : (Jvm.Cond.fieldLink "NandHouse" (64 : Nat) "NandHouse" "fourth" "LNandHouse$Inode;") ∈ lw_all := lw_g (lw_at lw_m4 237 rfl) rfl
theorem q1088 : (Jvm.Cond.fieldLink "NandHouse" (67 : Nat) "NandHouse" "line" "[I") ∈ lw_all := lw_g (lw_at lw_m4 238 rfl) rfl
theorem q1089 : (Jvm.Cond.fieldLink "NandHouse" (70 : Nat) "NandHouse" "names" "[J") ∈ lw_all := lw_g (lw_at lw_m4 239 rfl) rfl
theorem q1090 : (Jvm.Cond.fieldLink "NandHouse" (74 : Nat) "NandHouse" "named" "[I") ∈ lw_all := lw_g (lw_at lw_m5 0 rfl) rfl
theorem q1091 : (Jvm.Cond.fieldLink "NandHouse" (77 : Nat) "NandHouse" "copied" "[B") ∈ lw_all := lw_g (lw_at lw_m5 1 rfl) rfl
theorem q1092 : (Jvm.Cond.fieldLink "NandHouse" (80 : Nat) "NandHouse" "sheet" "[B") ∈ lw_all := lw_g (lw_at lw_m5 2 rfl) rfl
theorem q1093 : (Jvm.Cond.fieldLink "NandHouse" (83 : Nat) "NandHouse" "tape" "[B") ∈ lw_all := lw_g (lw_at lw_m5 3 rfl) rfl
theorem q1094 : (Jvm.Cond.fieldLink "NandHouse" (278 : Nat) "NandHouse" "taped" "I") ∈ lw_all := lw_g (lw_at lw_m5 4 rfl) rfl
theorem q1095 : (Jvm.Cond.fieldLink "NandHouse" (86 : Nat) "NandHouse" "way" "[B") ∈ lw_all := lw_g (lw_at lw_m5 5 rfl) rfl
theorem q1096 : (Jvm.Cond.fieldLink "NandHouse" (102 : Nat) "NandHouse" "raw" "I") ∈ lw_all := lw_g (lw_at lw_m5 6 rfl) rfl
theorem q1097 : (Jvm.Cond.fieldLink "NandHouse" (207 : Nat) "NandHouse" "slot" "I") ∈ lw_all := lw_g (lw_at lw_m5 7 rfl) rfl
theorem q1098 : (Jvm.Cond.fieldLink "NandHouse" (201 : Nat) "NandHouse" "freeSlot" "I") ∈ lw_all := lw_g (lw_at lw_m5 8 rfl) rfl
theorem q1099 : (Jvm.Cond.fieldLink "NandHouse" (344 : Nat) "NandHouse" "nameFound" "J") ∈ lw_all := lw_g (lw_at lw_m5 9 rfl) rfl
theorem q1100 : (Jvm.Cond.laysFinal "NandHouse" "NandHouse" "flash" "LNandHouse$Flash;") ∈ lw_all := lw_g (lw_at lw_m5 10 rfl) rfl
theorem q1101 : (Jvm.Cond.soleField "NandHouse" "flash") ∈ lw_all := lw_g (lw_at lw_m5 11 rfl) rfl
theorem q1102 : (Jvm.Cond.laysFinal "NandHouse" "NandHouse" "store" "LNandHouse$Store;") ∈ lw_all := lw_g (lw_at lw_m5 12 rfl) rfl
theorem q1103 : (Jvm.Cond.soleField "NandHouse" "store") ∈ lw_all := lw_g (lw_at lw_m5 13 rfl) rfl
theorem q1104 : (Jvm.Cond.laysFinal "NandHouse" "NandHouse" "probe" "LNandHouse$Store;") ∈ lw_all := lw_g (lw_at lw_m5 14 rfl) rfl
theorem q1105 : (Jvm.Cond.soleField "NandHouse" "probe") ∈ lw_all := lw_g (lw_at lw_m5 15 rfl) rfl
theorem q1106 : (Jvm.Cond.laysFinal "NandHouse" "NandHouse" "sums" "[I") ∈ lw_all := lw_g (lw_at lw_m5 16 rfl) rfl
theorem q1107 : (Jvm.Cond.soleField "NandHouse" "sums") ∈ lw_all := lw_g (lw_at lw_m5 17 rfl) rfl
theorem q1108 : (Jvm.Cond.laysFinal "NandHouse" "NandHouse" "capacity" "I") ∈ lw_all := lw_g (lw_at lw_m5 18 rfl) rfl
theorem q1109 : (Jvm.Cond.soleField "NandHouse" "capacity") ∈ lw_all := lw_g (lw_at lw_m5 19 rfl) rfl
theorem q1110 : (Jvm.Cond.lays "NandHouse" "NandHouse" "isOn" "Z") ∈ lw_all := lw_g (lw_at lw_m5 20 rfl) rfl
theorem q1111 : (Jvm.Cond.soleField "NandHouse" "isOn") ∈ lw_all := lw_g (lw_at lw_m5 21 rfl) rfl
theorem q1112 : (Jvm.Cond.laysFinal "NandHouse" "NandHouse" "handles" "[I") ∈ lw_all := lw_g (lw_at lw_m5 22 rfl) rfl
theorem q1113 : (Jvm.Cond.soleField "NandHouse" "handles") ∈ lw_all := lw_g (lw_at lw_m5 23 rfl) rfl
theorem q1114 : (Jvm.Cond.lays "NandHouse" "NandHouse" "live" "I") ∈ lw_all := lw_g (lw_at lw_m5 24 rfl) rfl
theorem q1115 : (Jvm.Cond.soleField "NandHouse" "live") ∈ lw_all := lw_g (lw_at lw_m5 25 rfl) rfl
theorem q1116 : (Jvm.Cond.lays "NandHouse" "NandHouse" "things" "I") ∈ lw_all := lw_g (lw_at lw_m5 26 rfl) rfl
theorem q1117 : (Jvm.Cond.soleField "NandHouse" "things") ∈ lw_all := lw_g (lw_at lw_m5 27 rfl) rfl
theorem q1118 : (Jvm.Cond.lays "NandHouse" "NandHouse" "fails" "I") ∈ lw_all := lw_g (lw_at lw_m5 28 rfl) rfl
theorem q1119 : (Jvm.Cond.soleField "NandHouse" "fails") ∈ lw_all := lw_g (lw_at lw_m5 29 rfl) rfl
theorem q1120 : (Jvm.Cond.lays "NandHouse" "NandHouse" "flips" "I") ∈ lw_all := lw_g (lw_at lw_m5 30 rfl) rfl
theorem q1121 : (Jvm.Cond.soleField "NandHouse" "flips") ∈ lw_all := lw_g (lw_at lw_m5 31 rfl) rfl
theorem q1122 : (Jvm.Cond.laysFinal "NandHouse" "NandHouse" "group" "LNandHouse$Row;") ∈ lw_all := lw_g (lw_at lw_m5 32 rfl) rfl
theorem q1123 : (Jvm.Cond.soleField "NandHouse" "group") ∈ lw_all := lw_g (lw_at lw_m5 33 rfl) rfl
theorem q1124 : (Jvm.Cond.laysFinal "NandHouse" "NandHouse" "old" "LNandHouse$Row;") ∈ lw_all := lw_g (lw_at lw_m5 34 rfl) rfl
theorem q1125 : (Jvm.Cond.soleField "NandHouse" "old") ∈ lw_all := lw_g (lw_at lw_m5 35 rfl) rfl
theorem q1126 : (Jvm.Cond.laysFinal "NandHouse" "NandHouse" "bytes" "[B") ∈ lw_all := lw_g (lw_at lw_m5 36 rfl) rfl
theorem q1127 : (Jvm.Cond.soleField "NandHouse" "bytes") ∈ lw_all := lw_g (lw_at lw_m5 37 rfl) rfl
theorem q1128 : (Jvm.Cond.laysFinal "NandHouse" "NandHouse" "one" "LNandHouse$Inode;") ∈ lw_all := lw_g (lw_at lw_m5 38 rfl) rfl
theorem q1129 : (Jvm.Cond.soleField "NandHouse" "one") ∈ lw_all := lw_g (lw_at lw_m5 39 rfl) rfl
theorem q1130 : (Jvm.Cond.laysFinal "NandHouse" "NandHouse" "other" "LNandHouse$Inode;") ∈ lw_all := lw_g (lw_at lw_m5 40 rfl) rfl
theorem q1131 : (Jvm.Cond.soleField "NandHouse" "other") ∈ lw_all := lw_g (lw_at lw_m5 41 rfl) rfl
theorem q1132 : (Jvm.Cond.laysFinal "NandHouse" "NandHouse" "third" "LNandHouse$Inode;") ∈ lw_all := lw_g (lw_at lw_m5 42 rfl) rfl
theorem q1133 : (Jvm.Cond.soleField "NandHouse" "third") ∈ lw_all := lw_g (lw_at lw_m5 43 rfl) rfl
theorem q1134 : (Jvm.Cond.laysFinal "NandHouse" "NandHouse" "fourth" "LNandHouse$Inode;") ∈ lw_all := lw_g (lw_at lw_m5 44 rfl) rfl
theorem q1135 : (Jvm.Cond.soleField "NandHouse" "fourth") ∈ lw_all := lw_g (lw_at lw_m5 45 rfl) rfl
theorem q1136 : (Jvm.Cond.laysFinal "NandHouse" "NandHouse" "line" "[I") ∈ lw_all := lw_g (lw_at lw_m5 46 rfl) rfl
theorem q1137 : (Jvm.Cond.soleField "NandHouse" "line") ∈ lw_all := lw_g (lw_at lw_m5 47 rfl) rfl
theorem q1138 : (Jvm.Cond.laysFinal "NandHouse" "NandHouse" "names" "[J") ∈ lw_all := lw_g (lw_at lw_m5 48 rfl) rfl
theorem q1139 : (Jvm.Cond.soleField "NandHouse" "names") ∈ lw_all := lw_g (lw_at lw_m5 49 rfl) rfl
theorem q1140 : (Jvm.Cond.laysFinal "NandHouse" "NandHouse" "named" "[I") ∈ lw_all := lw_g (lw_at lw_m5 50 rfl) rfl
theorem q1141 : (Jvm.Cond.soleField "NandHouse" "named") ∈ lw_all := lw_g (lw_at lw_m5 51 rfl) rfl
theorem q1142 : (Jvm.Cond.laysFinal "NandHouse" "NandHouse" "copied" "[B") ∈ lw_all := lw_g (lw_at lw_m5 52 rfl) rfl
theorem q1143 : (Jvm.Cond.soleField "NandHouse" "copied") ∈ lw_all := lw_g (lw_at lw_m5 53 rfl) rfl
theorem q1144 : (Jvm.Cond.laysFinal "NandHouse" "NandHouse" "sheet" "[B") ∈ lw_all := lw_g (lw_at lw_m5 54 rfl) rfl
theorem q1145 : (Jvm.Cond.soleField "NandHouse" "sheet") ∈ lw_all := lw_g (lw_at lw_m5 55 rfl) rfl
theorem q1146 : (Jvm.Cond.laysFinal "NandHouse" "NandHouse" "tape" "[B") ∈ lw_all := lw_g (lw_at lw_m5 56 rfl) rfl
theorem q1147 : (Jvm.Cond.soleField "NandHouse" "tape") ∈ lw_all := lw_g (lw_at lw_m5 57 rfl) rfl
theorem q1148 : (Jvm.Cond.lays "NandHouse" "NandHouse" "taped" "I") ∈ lw_all := lw_g (lw_at lw_m5 58 rfl) rfl
theorem q1149 : (Jvm.Cond.soleField "NandHouse" "taped") ∈ lw_all := lw_g (lw_at lw_m5 59 rfl) rfl
theorem q1150 : (Jvm.Cond.laysFinal "NandHouse" "NandHouse" "way" "[B") ∈ lw_all := lw_g (lw_at lw_m5 60 rfl) rfl
theorem q1151 : (Jvm.Cond.soleField "NandHouse" "way") ∈ lw_all := lw_g (lw_at lw_m5 61 rfl) rfl
theorem q1152 : (Jvm.Cond.laysFinal "NandHouse" "NandHouse" "raw" "I") ∈ lw_all := lw_g (lw_at lw_m5 62 rfl) rfl
theorem q1153 : (Jvm.Cond.soleField "NandHouse" "raw") ∈ lw_all := lw_g (lw_at lw_m5 63 rfl) rfl
theorem q1154 : (Jvm.Cond.lays "NandHouse" "NandHouse" "slot" "I") ∈ lw_all := lw_g (lw_at lw_m5 64 rfl) rfl
theorem q1155 : (Jvm.Cond.soleField "NandHouse" "slot") ∈ lw_all := lw_g (lw_at lw_m5 65 rfl) rfl
theorem q1156 : (Jvm.Cond.lays "NandHouse" "NandHouse" "freeSlot" "I") ∈ lw_all := lw_g (lw_at lw_m5 66 rfl) rfl
theorem q1157 : (Jvm.Cond.soleField "NandHouse" "freeSlot") ∈ lw_all := lw_g (lw_at lw_m5 67 rfl) rfl
theorem q1158 : (Jvm.Cond.lays "NandHouse" "NandHouse" "nameFound" "J") ∈ lw_all := lw_g (lw_at lw_m5 68 rfl) rfl
theorem q1159 : (Jvm.Cond.soleField "NandHouse" "nameFound") ∈ lw_all := lw_g (lw_at lw_m5 69 rfl) rfl
theorem q1160 : (Jvm.Cond.superclass "NandHouse" "java/lang/Object") ∈ lw_all := lw_g (lw_at lw_m5 70 rfl) rfl
theorem q1162 : (Jvm.Cond.instanceMethod ({ cls := "NandHouse", name := "create", desc := "(IJ)I" } : Jvm.MethodName)) ∈ lw_all := lw_g (lw_at lw_m5 72 rfl) rfl
theorem q1163 : (Jvm.Cond.selects "NandHouse" ({ cls := "NandHouse", name := "create", desc := "(IJ)I" } : Jvm.MethodName) ({ cls := "NandHouse", name := "create", desc := "(IJ)I" } : Jvm.MethodName)) ∈ lw_all := lw_g (lw_at lw_m5 73 rfl) rfl
theorem q1164 : (Jvm.Cond.code ({ cls := "NandHouse", name := "create", desc := "(IJ)I" } : Jvm.MethodName) prog_1_method_24_code (4 : Nat) (Option.some Jvm.ClassFile.FieldType.int)) ∈ lw_all := lw_g (lw_at lw_m5 74 rfl) rfl
theorem q1165 : (Jvm.Cond.methodLink "NandHouse" (270 : Nat) ({ cls := "NandHouse", name := "make", desc := "(IJI)I" } : Jvm.MethodName)) ∈ lw_all := lw_g (lw_at lw_m5 75 rfl) rfl
theorem q1166 : (Jvm.Cond.privateMethod ({ cls := "NandHouse", name := "make", desc := "(IJI)I" } : Jvm.MethodName)) ∈ lw_tbl := lw_at lw_m5 76 rfl
theorem q1167 : (Jvm.Cond.instanceMethod ({ cls := "NandHouse", name := "make", desc := "(IJI)I" } : Jvm.MethodName)) ∈ lw_all := lw_g (lw_at lw_m5 77 rfl) rfl
theorem q1168 : (Jvm.Cond.code ({ cls := "NandHouse", name := "make", desc := "(IJI)I" } : Jvm.MethodName) prog_1_method_27_code (8 : Nat) (Option.some Jvm.ClassFile.FieldType.int)) ∈ lw_all := lw_g (lw_at lw_m5 78 rfl) rfl
theorem q1169 : (Jvm.Cond.methodLink "NandHouse" (274 : Nat) ({ cls := "NandHouse", name := "isName", desc := "(J)Z" } : Jvm.MethodName)) ∈ lw_all := lw_g (lw_at lw_m5 79 rfl) rfl
theorem q1170 : (Jvm.Cond.static ({ cls := "NandHouse", name := "isName", desc := "(J)Z" } : Jvm.MethodName)) ∈ lw_all := lw_g (lw_at lw_m5 80 rfl) rfl
theorem q1171 : (Jvm.Cond.code ({ cls := "NandHouse", name := "isName", desc := "(J)Z" } : Jvm.MethodName) prog_1_method_14_code (6 : Nat) (Option.some Jvm.ClassFile.FieldType.boolean)) ∈ lw_all := lw_g (lw_at lw_m5 81 rfl) rfl
theorem q1172 : (Jvm.Cond.constantLong "NandHouse" (195 : Nat) (255 : Int64)) ∈ lw_all := lw_g (lw_at lw_m5 82 rfl) rfl
theorem q1173 : (Jvm.Cond.methodLink "NandHouse" (281 : Nat) ({ cls := "NandHouse", name := "directory", desc := "(ILNandHouse$Inode;)I" } : Jvm.MethodName)) ∈ lw_all := lw_g (lw_at lw_m5 83 rfl) rfl
theorem q1174 : (Jvm.Cond.privateMethod ({ cls := "NandHouse", name := "directory", desc := "(ILNandHouse$Inode;)I" } : Jvm.MethodName)) ∈ lw_tbl := lw_at lw_m5 84 rfl
theorem q1175 : (Jvm.Cond.instanceMethod ({ cls := "NandHouse", name := "directory", desc := "(ILNandHouse$Inode;)I" } : Jvm.MethodName)) ∈ lw_all := lw_g (lw_at lw_m5 85 rfl) rfl
theorem q1176 : (Jvm.Cond.code ({ cls := "NandHouse", name := "directory", desc := "(ILNandHouse$Inode;)I" } : Jvm.MethodName) prog_1_method_16_code (3 : Nat) (Option.some Jvm.ClassFile.FieldType.int)) ∈ lw_all := lw_g (lw_at lw_m5 86 rfl) rfl
theorem q1177 : (Jvm.Cond.methodLink "NandHouse" (214 : Nat) ({ cls := "NandHouse", name := "read", desc := "(ILNandHouse$Inode;)Z" } : Jvm.MethodName)) ∈ lw_all := lw_g (lw_at lw_m5 87 rfl) rfl
theorem q1178 : (Jvm.Cond.privateMethod ({ cls := "NandHouse", name := "read", desc := "(ILNandHouse$Inode;)Z" } : Jvm.MethodName)) ∈ lw_tbl := lw_at lw_m5 88 rfl
theorem q1179 : (Jvm.Cond.instanceMethod ({ cls := "NandHouse", name := "read", desc := "(ILNandHouse$Inode;)Z" } : Jvm.MethodName)) ∈ lw_all := lw_g (lw_at lw_m5 89 rfl) rfl
theorem q1180 : (Jvm.Cond.code ({ cls := "NandHouse", name := "read", desc := "(ILNandHouse$Inode;)Z" } : Jvm.MethodName) prog_1_method_13_code (4 : Nat) (Option.some Jvm.ClassFile.FieldType.boolean)) ∈ lw_all := lw_g (lw_at lw_m5 90 rfl) rfl
theorem q1181 : (Jvm.Cond.methodLink "NandHouse" (157 : Nat) ({ cls := "NandHouse", name := "keyOf", desc := "(II)J" } : Jvm.MethodName)) ∈ lw_all := lw_g (lw_at lw_m5 91 rfl) rfl
theorem q1182 : (Jvm.Cond.methodLink "NandHouse" (161 : Nat) ({ cls := "NandHouse$Index", name := "find", desc := "(JJ)Z" } : Jvm.MethodName)) ∈ lw_all := lw_g (lw_at lw_m5 92 rfl) rfl
theorem q1183 : (Jvm.Cond.methodLink "NandHouse" (173 : Nat) ({ cls := "NandHouse$Store", name := "read", desc := "(IIILNandHouse$Row;)V" } : Jvm.MethodName)) ∈ lw_all := lw_g (lw_at lw_m5 93 rfl) rfl
theorem q1206 : (Jvm.Cond.methodLink "NandHouse" (178 : Nat) ({ cls := "NandHouse$Row", name := "get", desc := "(I)I" } : Jvm.MethodName)) ∈ lw_all := lw_g (lw_at lw_m5 116 rfl) rfl
theorem q1210 : (Jvm.Cond.methodLink "NandHouse" (285 : Nat) ({ cls := "NandHouse", name := "entry", desc := "(IJ)I" } : Jvm.MethodName)) ∈ lw_all := lw_g (lw_at lw_m5 120 rfl) rfl
theorem q1211 : (Jvm.Cond.privateMethod ({ cls := "NandHouse", name := "entry", desc := "(IJ)I" } : Jvm.MethodName)) ∈ lw_tbl := lw_at lw_m5 121 rfl
theorem q1212 : (Jvm.Cond.instanceMethod ({ cls := "NandHouse", name := "entry", desc := "(IJ)I" } : Jvm.MethodName)) ∈ lw_all := lw_g (lw_at lw_m5 122 rfl) rfl
theorem q1213 : (Jvm.Cond.code ({ cls := "NandHouse", name := "entry", desc := "(IJ)I" } : Jvm.MethodName) prog_1_method_15_code (10 : Nat) (Option.some Jvm.ClassFile.FieldType.int)) ∈ lw_all := lw_g (lw_at lw_m5 123 rfl) rfl
theorem q1214 : (Jvm.Cond.methodLink "NandHouse" (197 : Nat) ({ cls := "NandHouse", name := "hash", desc := "(J)J" } : Jvm.MethodName)) ∈ lw_all := lw_g (lw_at lw_m5 124 rfl) rfl
theorem q1215 : (Jvm.Cond.static ({ cls := "NandHouse", name := "hash", desc := "(J)J" } : Jvm.MethodName)) ∈ lw_all := lw_g (lw_at lw_m5 125 rfl) rfl
theorem q1216 : (Jvm.Cond.code ({ cls := "NandHouse", name := "hash", desc := "(J)J" } : Jvm.MethodName) prog_1_method_10_code (5 : Nat) (Option.some Jvm.ClassFile.FieldType.long)) ∈ lw_all := lw_g (lw_at lw_m5 126 rfl) rfl
theorem q1217 : (Jvm.Cond.constantLong "NandHouse" (20 : Nat) (1024 : Int64)) ∈ lw_all := lw_g (lw_at lw_m5 127 rfl) rfl
theorem q1218 : (Jvm.Cond.methodLink "NandHouse" (210 : Nat) ({ cls := "NandHouse$Row", name := "getLongAt", desc := "(I)J" } : Jvm.MethodName)) ∈ lw_all := lw_g (lw_at lw_m5 128 rfl) rfl
theorem q1223 : (Jvm.Cond.static ({ cls := "NandHouse", name := "getLong", desc := "([BI)J" } : Jvm.MethodName)) ∈ lw_all := lw_g (lw_at lw_m5 133 rfl) rfl
theorem q1224 : (Jvm.Cond.code ({ cls := "NandHouse", name := "getLong", desc := "([BI)J" } : Jvm.MethodName) prog_1_method_8_code (2 : Nat) (Option.some Jvm.ClassFile.FieldType.long)) ∈ lw_all := lw_g (lw_at lw_m5 134 rfl) rfl
theorem q1225 : (Jvm.Cond.methodLink "NandHouse" (12 : Nat) ({ cls := "NandHouse", name := "getInt", desc := "([BI)I" } : Jvm.MethodName)) ∈ lw_all := lw_g (lw_at lw_m5 135 rfl) rfl
theorem q1226 : (Jvm.Cond.constantLong "NandHouse" (16 : Nat) (4294967295 : Int64)) ∈ lw_all := lw_g (lw_at lw_m5 136 rfl) rfl
theorem q1227 : (Jvm.Cond.methodLink "NandHouse" (289 : Nat) ({ cls := "NandHouse", name := "itemOf", desc := "(I)I" } : Jvm.MethodName)) ∈ lw_all := lw_g (lw_at lw_m5 137 rfl) rfl
theorem q1228 : (Jvm.Cond.static ({ cls := "NandHouse", name := "itemOf", desc := "(I)I" } : Jvm.MethodName)) ∈ lw_all := lw_g (lw_at lw_m5 138 rfl) rfl
theorem q1229 : (Jvm.Cond.code ({ cls := "NandHouse", name := "itemOf", desc := "(I)I" } : Jvm.MethodName) prog_1_method_65_code (1 : Nat) (Option.some Jvm.ClassFile.FieldType.int)) ∈ lw_all := lw_g (lw_at lw_m5 139 rfl) rfl
theorem q1230 : (Jvm.Cond.methodLink "NandHouse" (378 : Nat) ({ cls := "NandHouse", name := "eights", desc := "(I)I" } : Jvm.MethodName)) ∈ lw_all := lw_g (lw_at lw_m5 140 rfl) rfl
theorem q1231 : (Jvm.Cond.methodLink "NandHouse" (294 : Nat) ({ cls := "NandHouse", name := "begin", desc := "()V" } : Jvm.MethodName)) ∈ lw_all := lw_g (lw_at lw_m5 141 rfl) rfl
theorem q1232 : (Jvm.Cond.privateMethod ({ cls := "NandHouse", name := "begin", desc := "()V" } : Jvm.MethodName)) ∈ lw_tbl := lw_at lw_m5 142 rfl
theorem q1233 : (Jvm.Cond.instanceMethod ({ cls := "NandHouse", name := "begin", desc := "()V" } : Jvm.MethodName)) ∈ lw_all := lw_g (lw_at lw_m5 143 rfl) rfl
theorem q1234 : (Jvm.Cond.code ({ cls := "NandHouse", name := "begin", desc := "()V" } : Jvm.MethodName) prog_1_method_19_code (1 : Nat) (Option.none : Option Jvm.ClassFile.FieldType)) ∈ lw_all := lw_g (lw_at lw_m5 144 rfl) rfl
theorem q1235 : (Jvm.Cond.methodLink "NandHouse" (217 : Nat) ({ cls := "NandHouse$Row", name := "clear", desc := "()V" } : Jvm.MethodName)) ∈ lw_all := lw_g (lw_at lw_m5 145 rfl) rfl
theorem q1236 : (Jvm.Cond.methodLink "NandHouse" (296 : Nat) ({ cls := "NandHouse", name := "addEntry", desc := "(IJII)V" } : Jvm.MethodName)) ∈ lw_all := lw_g (lw_at lw_m5 146 rfl) rfl
theorem q1237 : (Jvm.Cond.privateMethod ({ cls := "NandHouse", name := "addEntry", desc := "(IJII)V" } : Jvm.MethodName)) ∈ lw_tbl := lw_at lw_m5 147 rfl
theorem q1238 : (Jvm.Cond.instanceMethod ({ cls := "NandHouse", name := "addEntry", desc := "(IJII)V" } : Jvm.MethodName)) ∈ lw_all := lw_g (lw_at lw_m5 148 rfl) rfl
theorem q1239 : (Jvm.Cond.code ({ cls := "NandHouse", name := "addEntry", desc := "(IJII)V" } : Jvm.MethodName) prog_1_method_21_code (6 : Nat) (Option.none : Option Jvm.ClassFile.FieldType)) ∈ lw_all := lw_g (lw_at lw_m5 149 rfl) rfl
theorem q1240 : (Jvm.Cond.methodLink "NandHouse" (220 : Nat) ({ cls := "NandHouse$Row", name := "begin", desc := "(II)LNandHouse$Row;" } : Jvm.MethodName)) ∈ lw_all := lw_g (lw_at lw_m5 150 rfl) rfl
theorem q1241 : (Jvm.Cond.methodLink "NandHouse" (224 : Nat) ({ cls := "NandHouse$Row", name := "put", desc := "(II)LNandHouse$Row;" } : Jvm.MethodName)) ∈ lw_all := lw_g (lw_at lw_m5 151 rfl) rfl
theorem q1242 : (Jvm.Cond.methodLink "NandHouse" (231 : Nat) ({ cls := "NandHouse$Row", name := "putLongAt", desc := "(IJ)LNandHouse$Row;" } : Jvm.MethodName)) ∈ lw_all := lw_g (lw_at lw_m5 152 rfl) rfl
theorem q1243 : (Jvm.Cond.methodLink "NandHouse" (227 : Nat) ({ cls := "NandHouse$Row", name := "close", desc := "(JZ)V" } : Jvm.MethodName)) ∈ lw_all := lw_g (lw_at lw_m5 153 rfl) rfl
theorem q1244 : (Jvm.Cond.methodLink "NandHouse" (266 : Nat) ({ cls := "NandHouse", name := "addInode", desc := "(LNandHouse$Inode;Z)V" } : Jvm.MethodName)) ∈ lw_all := lw_g (lw_at lw_m5 154 rfl) rfl
theorem q1245 : (Jvm.Cond.privateMethod ({ cls := "NandHouse", name := "addInode", desc := "(LNandHouse$Inode;Z)V" } : Jvm.MethodName)) ∈ lw_tbl := lw_at lw_m5 155 rfl
theorem q1246 : (Jvm.Cond.instanceMethod ({ cls := "NandHouse", name := "addInode", desc := "(LNandHouse$Inode;Z)V" } : Jvm.MethodName)) ∈ lw_all := lw_g (lw_at lw_m5 156 rfl) rfl
theorem q1247 : (Jvm.Cond.code ({ cls := "NandHouse", name := "addInode", desc := "(LNandHouse$Inode;Z)V" } : Jvm.MethodName) prog_1_method_20_code (3 : Nat) (Option.none : Option Jvm.ClassFile.FieldType)) ∈ lw_all := lw_g (lw_at lw_m5 157 rfl) rfl
theorem q1248 : (Jvm.Cond.methodLink "NandHouse" (300 : Nat) ({ cls := "java/lang/System", name := "arraycopy", desc := "(Ljava/lang/Object;ILjava/lang/Object;II)V" } : Jvm.MethodName)) ∈ lw_all := lw_g (lw_at lw_m5 158 rfl) rfl
theorem q1249 : (Jvm.Cond.methodLink "NandHouse" (306 : Nat) ({ cls := "NandHouse", name := "addPiece", desc := "(III)V" } : Jvm.MethodName)) ∈ lw_all := lw_g (lw_at lw_m5 159 rfl) rfl
theorem q1250 : (Jvm.Cond.privateMethod ({ cls := "NandHouse", name := "addPiece", desc := "(III)V" } : Jvm.MethodName)) ∈ lw_tbl := lw_at lw_m5 160 rfl
theorem q1251 : (Jvm.Cond.instanceMethod ({ cls := "NandHouse", name := "addPiece", desc := "(III)V" } : Jvm.MethodName)) ∈ lw_all := lw_g (lw_at lw_m5 161 rfl) rfl
theorem q1252 : (Jvm.Cond.code ({ cls := "NandHouse", name := "addPiece", desc := "(III)V" } : Jvm.MethodName) prog_1_method_64_code (4 : Nat) (Option.none : Option Jvm.ClassFile.FieldType)) ∈ lw_all := lw_g (lw_at lw_m5 162 rfl) rfl
theorem q1253 : (Jvm.Cond.methodLink "NandHouse" (310 : Nat) ({ cls := "NandHouse", name := "hand", desc := "()V" } : Jvm.MethodName)) ∈ lw_all := lw_g (lw_at lw_m5 163 rfl) rfl
theorem q1254 : (Jvm.Cond.privateMethod ({ cls := "NandHouse", name := "hand", desc := "()V" } : Jvm.MethodName)) ∈ lw_tbl := lw_at lw_m5 164 rfl
theorem q1255 : (Jvm.Cond.instanceMethod ({ cls := "NandHouse", name := "hand", desc := "()V" } : Jvm.MethodName)) ∈ lw_all := lw_g (lw_at lw_m5 165 rfl) rfl
theorem q1256 : (Jvm.Cond.code ({ cls := "NandHouse", name := "hand", desc := "()V" } : Jvm.MethodName) prog_1_method_22_code (3 : Nat) (Option.none : Option Jvm.ClassFile.FieldType)) ∈ lw_all := lw_g (lw_at lw_m5 166 rfl) rfl
theorem q1257 : (Jvm.Cond.methodLink "NandHouse" (235 : Nat) ({ cls := "NandHouse$Store", name := "hand", desc := "(LNandHouse$Row;)V" } : Jvm.MethodName)) ∈ lw_all := lw_g (lw_at lw_m5 167 rfl) rfl
theorem q1345 : (Jvm.Cond.methodLink "NandHouse" (245 : Nat) ({ cls := "NandHouse$Row", name := "length", desc := "()I" } : Jvm.MethodName)) ∈ lw_all := lw_g (lw_at lw_m6 15 rfl) rfl
theorem q1346 : (Jvm.Cond.methodLink "NandHouse" (255 : Nat) ({ cls := "NandHouse$Store", name := "apply", desc := "(LNandHouse$Row;II)V" } : Jvm.MethodName)) ∈ lw_all := lw_g (lw_at lw_m6 16 rfl) rfl
theorem q1385 : (Jvm.Cond.instanceMethod ({ cls := "NandHouse", name := "mkdir", desc := "(IJ)I" } : Jvm.MethodName)) ∈ lw_all := lw_g (lw_at lw_m6 55 rfl) rfl
theorem q1386 : (Jvm.Cond.selects "NandHouse" ({ cls := "NandHouse", name := "mkdir", desc := "(IJ)I" } : Jvm.MethodName) ({ cls := "NandHouse", name := "mkdir", desc := "(IJ)I" } : Jvm.MethodName)) ∈ lw_all := lw_g (lw_at lw_m6 56 rfl) rfl
theorem q1387 : (Jvm.Cond.code ({ cls := "NandHouse", name := "mkdir", desc := "(IJ)I" } : Jvm.MethodName) prog_1_method_25_code (4 : Nat) (Option.some Jvm.ClassFile.FieldType.int)) ∈ lw_all := lw_g (lw_at lw_m6 57 rfl) rfl
theorem q1389 : (Jvm.Cond.instanceMethod ({ cls := "NandHouse", name := "sign", desc := "(IJ)I" } : Jvm.MethodName)) ∈ lw_all := lw_g (lw_at lw_m6 59 rfl) rfl
theorem q1390 : (Jvm.Cond.selects "NandHouse" ({ cls := "NandHouse", name := "sign", desc := "(IJ)I" } : Jvm.MethodName) ({ cls := "NandHouse", name := "sign", desc := "(IJ)I" } : Jvm.MethodName)) ∈ lw_all := lw_g (lw_at lw_m6 60 rfl) rfl
theorem q1391 : (Jvm.Cond.code ({ cls := "NandHouse", name := "sign", desc := "(IJ)I" } : Jvm.MethodName) prog_1_method_26_code (4 : Nat) (Option.some Jvm.ClassFile.FieldType.int)) ∈ lw_all := lw_g (lw_at lw_m6 61 rfl) rfl
theorem q1393 : (Jvm.Cond.instanceMethod ({ cls := "NandHouse", name := "link", desc := "(IIJ)I" } : Jvm.MethodName)) ∈ lw_all := lw_g (lw_at lw_m6 63 rfl) rfl
theorem q1394 : (Jvm.Cond.selects "NandHouse" ({ cls := "NandHouse", name := "link", desc := "(IIJ)I" } : Jvm.MethodName) ({ cls := "NandHouse", name := "link", desc := "(IIJ)I" } : Jvm.MethodName)) ∈ lw_all := lw_g (lw_at lw_m6 64 rfl) rfl
theorem q1395 : (Jvm.Cond.code ({ cls := "NandHouse", name := "link", desc := "(IIJ)I" } : Jvm.MethodName) prog_1_method_28_code (6 : Nat) (Option.some Jvm.ClassFile.FieldType.int)) ∈ lw_all := lw_g (lw_at lw_m6 65 rfl) rfl
theorem q1397 : (Jvm.Cond.instanceMethod ({ cls := "NandHouse", name := "unlink", desc := "(IJ)I" } : Jvm.MethodName)) ∈ lw_all := lw_g (lw_at lw_m6 67 rfl) rfl
theorem q1398 : (Jvm.Cond.selects "NandHouse" ({ cls := "NandHouse", name := "unlink", desc := "(IJ)I" } : Jvm.MethodName) ({ cls := "NandHouse", name := "unlink", desc := "(IJ)I" } : Jvm.MethodName)) ∈ lw_all := lw_g (lw_at lw_m6 68 rfl) rfl
theorem q1399 : (Jvm.Cond.code ({ cls := "NandHouse", name := "unlink", desc := "(IJ)I" } : Jvm.MethodName) prog_1_method_31_code (5 : Nat) (Option.some Jvm.ClassFile.FieldType.int)) ∈ lw_all := lw_g (lw_at lw_m6 69 rfl) rfl
theorem q1400 : (Jvm.Cond.methodLink "NandHouse" (316 : Nat) ({ cls := "NandHouse", name := "named", desc := "(IJ)I" } : Jvm.MethodName)) ∈ lw_all := lw_g (lw_at lw_m6 70 rfl) rfl
theorem q1401 : (Jvm.Cond.privateMethod ({ cls := "NandHouse", name := "named", desc := "(IJ)I" } : Jvm.MethodName)) ∈ lw_tbl := lw_at lw_m6 71 rfl
theorem q1402 : (Jvm.Cond.instanceMethod ({ cls := "NandHouse", name := "named", desc := "(IJ)I" } : Jvm.MethodName)) ∈ lw_all := lw_g (lw_at lw_m6 72 rfl) rfl
theorem q1403 : (Jvm.Cond.code ({ cls := "NandHouse", name := "named", desc := "(IJ)I" } : Jvm.MethodName) prog_1_method_29_code (5 : Nat) (Option.some Jvm.ClassFile.FieldType.int)) ∈ lw_all := lw_g (lw_at lw_m6 73 rfl) rfl
theorem q1404 : (Jvm.Cond.methodLink "NandHouse" (318 : Nat) ({ cls := "NandHouse", name := "unname", desc := "(IJ)V" } : Jvm.MethodName)) ∈ lw_all := lw_g (lw_at lw_m6 74 rfl) rfl
theorem q1405 : (Jvm.Cond.privateMethod ({ cls := "NandHouse", name := "unname", desc := "(IJ)V" } : Jvm.MethodName)) ∈ lw_tbl := lw_at lw_m6 75 rfl
theorem q1406 : (Jvm.Cond.instanceMethod ({ cls := "NandHouse", name := "unname", desc := "(IJ)V" } : Jvm.MethodName)) ∈ lw_all := lw_g (lw_at lw_m6 76 rfl) rfl
theorem q1407 : (Jvm.Cond.code ({ cls := "NandHouse", name := "unname", desc := "(IJ)V" } : Jvm.MethodName) prog_1_method_30_code (4 : Nat) (Option.none : Option Jvm.ClassFile.FieldType)) ∈ lw_all := lw_g (lw_at lw_m6 77 rfl) rfl
theorem q1408 : (Jvm.Cond.methodLink "NandHouse" (312 : Nat) ({ cls := "NandHouse", name := "loses", desc := "(LNandHouse$Inode;Z)Z" } : Jvm.MethodName)) ∈ lw_all := lw_g (lw_at lw_m6 78 rfl) rfl
theorem q1409 : (Jvm.Cond.privateMethod ({ cls := "NandHouse", name := "loses", desc := "(LNandHouse$Inode;Z)Z" } : Jvm.MethodName)) ∈ lw_tbl := lw_at lw_m6 79 rfl
theorem q1410 : (Jvm.Cond.instanceMethod ({ cls := "NandHouse", name := "loses", desc := "(LNandHouse$Inode;Z)Z" } : Jvm.MethodName)) ∈ lw_all := lw_g (lw_at lw_m6 80 rfl) rfl
theorem q1411 : (Jvm.Cond.code ({ cls := "NandHouse", name := "loses", desc := "(LNandHouse$Inode;Z)Z" } : Jvm.MethodName) prog_1_method_23_code (4 : Nat) (Option.some Jvm.ClassFile.FieldType.boolean)) ∈ lw_all := lw_g (lw_at lw_m6 81 rfl) rfl
theorem q1412 : (Jvm.Cond.methodLink "NandHouse" (259 : Nat) ({ cls := "NandHouse", name := "isOpen", desc := "(I)Z" } : Jvm.MethodName)) ∈ lw_all := lw_g (lw_at lw_m6 82 rfl) rfl
theorem q1413 : (Jvm.Cond.privateMethod ({ cls := "NandHouse", name := "isOpen", desc := "(I)Z" } : Jvm.MethodName)) ∈ lw_tbl := lw_at lw_m6 83 rfl
theorem q1414 : (Jvm.Cond.instanceMethod ({ cls := "NandHouse", name := "isOpen", desc := "(I)Z" } : Jvm.MethodName)) ∈ lw_all := lw_g (lw_at lw_m6 84 rfl) rfl
theorem q1415 : (Jvm.Cond.code ({ cls := "NandHouse", name := "isOpen", desc := "(I)Z" } : Jvm.MethodName) prog_1_method_17_code (3 : Nat) (Option.some Jvm.ClassFile.FieldType.boolean)) ∈ lw_all := lw_g (lw_at lw_m6 85 rfl) rfl
theorem q1416 : (Jvm.Cond.methodLink "NandHouse" (263 : Nat) ({ cls := "NandHouse", name := "roomOf", desc := "(I)I" } : Jvm.MethodName)) ∈ lw_all := lw_g (lw_at lw_m6 86 rfl) rfl
theorem q1417 : (Jvm.Cond.privateMethod ({ cls := "NandHouse", name := "roomOf", desc := "(I)I" } : Jvm.MethodName)) ∈ lw_tbl := lw_at lw_m6 87 rfl
theorem q1418 : (Jvm.Cond.instanceMethod ({ cls := "NandHouse", name := "roomOf", desc := "(I)I" } : Jvm.MethodName)) ∈ lw_all := lw_g (lw_at lw_m6 88 rfl) rfl
theorem q1419 : (Jvm.Cond.code ({ cls := "NandHouse", name := "roomOf", desc := "(I)I" } : Jvm.MethodName) prog_1_method_18_code (4 : Nat) (Option.some Jvm.ClassFile.FieldType.int)) ∈ lw_all := lw_g (lw_at lw_m6 89 rfl) rfl
theorem q1421 : (Jvm.Cond.instanceMethod ({ cls := "NandHouse", name := "rmdir", desc := "(IJ)I" } : Jvm.MethodName)) ∈ lw_all := lw_g (lw_at lw_m6 91 rfl) rfl
theorem q1422 : (Jvm.Cond.selects "NandHouse" ({ cls := "NandHouse", name := "rmdir", desc := "(IJ)I" } : Jvm.MethodName) ({ cls := "NandHouse", name := "rmdir", desc := "(IJ)I" } : Jvm.MethodName)) ∈ lw_all := lw_g (lw_at lw_m6 92 rfl) rfl
theorem q1423 : (Jvm.Cond.code ({ cls := "NandHouse", name := "rmdir", desc := "(IJ)I" } : Jvm.MethodName) prog_1_method_32_code (5 : Nat) (Option.some Jvm.ClassFile.FieldType.int)) ∈ lw_all := lw_g (lw_at lw_m6 93 rfl) rfl
theorem q1425 : (Jvm.Cond.instanceMethod ({ cls := "NandHouse", name := "rename", desc := "(IJIJ)I" } : Jvm.MethodName)) ∈ lw_all := lw_g (lw_at lw_m6 95 rfl) rfl
theorem q1426 : (Jvm.Cond.selects "NandHouse" ({ cls := "NandHouse", name := "rename", desc := "(IJIJ)I" } : Jvm.MethodName) ({ cls := "NandHouse", name := "rename", desc := "(IJIJ)I" } : Jvm.MethodName)) ∈ lw_all := lw_g (lw_at lw_m6 96 rfl) rfl
theorem q1427 : (Jvm.Cond.code ({ cls := "NandHouse", name := "rename", desc := "(IJIJ)I" } : Jvm.MethodName) prog_1_method_34_code (14 : Nat) (Option.some Jvm.ClassFile.FieldType.int)) ∈ lw_all := lw_g (lw_at lw_m6 97 rfl) rfl
theorem q1428 : (Jvm.Cond.methodLink "NandHouse" (322 : Nat) ({ cls := "NandHouse", name := "isWithin", desc := "(II)Z" } : Jvm.MethodName)) ∈ lw_all := lw_g (lw_at lw_m6 98 rfl) rfl
theorem q1429 : (Jvm.Cond.privateMethod ({ cls := "NandHouse", name := "isWithin", desc := "(II)Z" } : Jvm.MethodName)) ∈ lw_tbl := lw_at lw_m6 99 rfl
theorem q1430 : (Jvm.Cond.instanceMethod ({ cls := "NandHouse", name := "isWithin", desc := "(II)Z" } : Jvm.MethodName)) ∈ lw_all := lw_g (lw_at lw_m6 100 rfl) rfl
theorem q1431 : (Jvm.Cond.code ({ cls := "NandHouse", name := "isWithin", desc := "(II)Z" } : Jvm.MethodName) prog_1_method_33_code (10 : Nat) (Option.some Jvm.ClassFile.FieldType.boolean)) ∈ lw_all := lw_g (lw_at lw_m6 101 rfl) rfl
theorem q1433 : (Jvm.Cond.instanceMethod ({ cls := "NandHouse", name := "swap", desc := "(IJIJ)I" } : Jvm.MethodName)) ∈ lw_all := lw_g (lw_at lw_m6 103 rfl) rfl
theorem q1434 : (Jvm.Cond.selects "NandHouse" ({ cls := "NandHouse", name := "swap", desc := "(IJIJ)I" } : Jvm.MethodName) ({ cls := "NandHouse", name := "swap", desc := "(IJIJ)I" } : Jvm.MethodName)) ∈ lw_all := lw_g (lw_at lw_m6 104 rfl) rfl
theorem q1435 : (Jvm.Cond.code ({ cls := "NandHouse", name := "swap", desc := "(IJIJ)I" } : Jvm.MethodName) prog_1_method_35_code (12 : Nat) (Option.some Jvm.ClassFile.FieldType.int)) ∈ lw_all := lw_g (lw_at lw_m6 105 rfl) rfl
theorem q1437 : (Jvm.Cond.instanceMethod ({ cls := "NandHouse", name := "look", desc := "(IJ)I" } : Jvm.MethodName)) ∈ lw_all := lw_g (lw_at lw_m6 107 rfl) rfl
theorem q1438 : (Jvm.Cond.selects "NandHouse" ({ cls := "NandHouse", name := "look", desc := "(IJ)I" } : Jvm.MethodName) ({ cls := "NandHouse", name := "look", desc := "(IJ)I" } : Jvm.MethodName)) ∈ lw_all := lw_g (lw_at lw_m6 108 rfl) rfl
theorem q1439 : (Jvm.Cond.code ({ cls := "NandHouse", name := "look", desc := "(IJ)I" } : Jvm.MethodName) prog_1_method_36_code (5 : Nat) (Option.some Jvm.ClassFile.FieldType.int)) ∈ lw_all := lw_g (lw_at lw_m6 109 rfl) rfl
theorem q1441 : (Jvm.Cond.instanceMethod ({ cls := "NandHouse", name := "list", desc := "(II)J" } : Jvm.MethodName)) ∈ lw_all := lw_g (lw_at lw_m6 111 rfl) rfl
theorem q1442 : (Jvm.Cond.selects "NandHouse" ({ cls := "NandHouse", name := "list", desc := "(II)J" } : Jvm.MethodName) ({ cls := "NandHouse", name := "list", desc := "(II)J" } : Jvm.MethodName)) ∈ lw_all := lw_g (lw_at lw_m6 112 rfl) rfl
theorem q1443 : (Jvm.Cond.code ({ cls := "NandHouse", name := "list", desc := "(II)J" } : Jvm.MethodName) prog_1_method_37_code (7 : Nat) (Option.some Jvm.ClassFile.FieldType.long)) ∈ lw_all := lw_g (lw_at lw_m6 113 rfl) rfl
theorem q1444 : (Jvm.Cond.methodLink "NandHouse" (326 : Nat) ({ cls := "NandHouse", name := "gather", desc := "(I)I" } : Jvm.MethodName)) ∈ lw_all := lw_g (lw_at lw_m6 114 rfl) rfl
theorem q1445 : (Jvm.Cond.privateMethod ({ cls := "NandHouse", name := "gather", desc := "(I)I" } : Jvm.MethodName)) ∈ lw_tbl := lw_at lw_m6 115 rfl
theorem q1446 : (Jvm.Cond.instanceMethod ({ cls := "NandHouse", name := "gather", desc := "(I)I" } : Jvm.MethodName)) ∈ lw_all := lw_g (lw_at lw_m6 116 rfl) rfl
theorem q1447 : (Jvm.Cond.code ({ cls := "NandHouse", name := "gather", desc := "(I)I" } : Jvm.MethodName) prog_1_method_38_code (5 : Nat) (Option.some Jvm.ClassFile.FieldType.int)) ∈ lw_all := lw_g (lw_at lw_m6 117 rfl) rfl
theorem q1448 : (Jvm.Cond.constantLong "NandHouse" (338 : Nat) (2 : Int64)) ∈ lw_all := lw_g (lw_at lw_m6 118 rfl) rfl
theorem q1449 : (Jvm.Cond.methodLink "NandHouse" (335 : Nat) ({ cls := "java/lang/Long", name := "reverseBytes", desc := "(J)J" } : Jvm.MethodName)) ∈ lw_all := lw_g (lw_at lw_m6 119 rfl) rfl
theorem q1450 : (Jvm.Cond.methodLink "NandHouse" (329 : Nat) ({ cls := "java/lang/Long", name := "compareUnsigned", desc := "(JJ)I" } : Jvm.MethodName)) ∈ lw_all := lw_g (lw_at lw_m6 120 rfl) rfl
theorem q1452 : (Jvm.Cond.instanceMethod ({ cls := "NandHouse", name := "after", desc := "(IJ)J" } : Jvm.MethodName)) ∈ lw_all := lw_g (lw_at lw_m6 122 rfl) rfl
theorem q1453 : (Jvm.Cond.selects "NandHouse" ({ cls := "NandHouse", name := "after", desc := "(IJ)J" } : Jvm.MethodName) ({ cls := "NandHouse", name := "after", desc := "(IJ)J" } : Jvm.MethodName)) ∈ lw_all := lw_g (lw_at lw_m6 123 rfl) rfl
theorem q1454 : (Jvm.Cond.code ({ cls := "NandHouse", name := "after", desc := "(IJ)J" } : Jvm.MethodName) prog_1_method_39_code (4 : Nat) (Option.some Jvm.ClassFile.FieldType.long)) ∈ lw_all := lw_g (lw_at lw_m6 124 rfl) rfl
theorem q1455 : (Jvm.Cond.methodLink "NandHouse" (340 : Nat) ({ cls := "NandHouse", name := "following", desc := "(IJ)J" } : Jvm.MethodName)) ∈ lw_all := lw_g (lw_at lw_m6 125 rfl) rfl
theorem q1456 : (Jvm.Cond.privateMethod ({ cls := "NandHouse", name := "following", desc := "(IJ)J" } : Jvm.MethodName)) ∈ lw_tbl := lw_at lw_m6 126 rfl
theorem q1457 : (Jvm.Cond.instanceMethod ({ cls := "NandHouse", name := "following", desc := "(IJ)J" } : Jvm.MethodName)) ∈ lw_all := lw_g (lw_at lw_m6 127 rfl) rfl
theorem q1458 : (Jvm.Cond.code ({ cls := "NandHouse", name := "following", desc := "(IJ)J" } : Jvm.MethodName) prog_1_method_40_code (15 : Nat) (Option.some Jvm.ClassFile.FieldType.long)) ∈ lw_all := lw_g (lw_at lw_m6 128 rfl) rfl
theorem q1460 : (Jvm.Cond.instanceMethod ({ cls := "NandHouse", name := "feed", desc := "(JI)I" } : Jvm.MethodName)) ∈ lw_all := lw_g (lw_at lw_m6 130 rfl) rfl
theorem q1461 : (Jvm.Cond.selects "NandHouse" ({ cls := "NandHouse", name := "feed", desc := "(JI)I" } : Jvm.MethodName) ({ cls := "NandHouse", name := "feed", desc := "(JI)I" } : Jvm.MethodName)) ∈ lw_all := lw_g (lw_at lw_m6 131 rfl) rfl
theorem q1462 : (Jvm.Cond.code ({ cls := "NandHouse", name := "feed", desc := "(JI)I" } : Jvm.MethodName) prog_1_method_41_code (5 : Nat) (Option.some Jvm.ClassFile.FieldType.int)) ∈ lw_all := lw_g (lw_at lw_m6 132 rfl) rfl
theorem q1464 : (Jvm.Cond.instanceMethod ({ cls := "NandHouse", name := "walk", desc := "(IZ)I" } : Jvm.MethodName)) ∈ lw_all := lw_g (lw_at lw_m6 134 rfl) rfl
theorem q1465 : (Jvm.Cond.selects "NandHouse" ({ cls := "NandHouse", name := "walk", desc := "(IZ)I" } : Jvm.MethodName) ({ cls := "NandHouse", name := "walk", desc := "(IZ)I" } : Jvm.MethodName)) ∈ lw_all := lw_g (lw_at lw_m6 135 rfl) rfl
theorem q1466 : (Jvm.Cond.code ({ cls := "NandHouse", name := "walk", desc := "(IZ)I" } : Jvm.MethodName) prog_1_method_45_code (13 : Nat) (Option.some Jvm.ClassFile.FieldType.int)) ∈ lw_all := lw_g (lw_at lw_m6 136 rfl) rfl
theorem q1467 : (Jvm.Cond.methodLink "NandHouse" (347 : Nat) ({ cls := "NandHouse", name := "next", desc := "(IZ)I" } : Jvm.MethodName)) ∈ lw_all := lw_g (lw_at lw_m6 137 rfl) rfl
theorem q1468 : (Jvm.Cond.privateMethod ({ cls := "NandHouse", name := "next", desc := "(IZ)I" } : Jvm.MethodName)) ∈ lw_tbl := lw_at lw_m6 138 rfl
theorem q1469 : (Jvm.Cond.instanceMethod ({ cls := "NandHouse", name := "next", desc := "(IZ)I" } : Jvm.MethodName)) ∈ lw_all := lw_g (lw_at lw_m6 139 rfl) rfl
theorem q1470 : (Jvm.Cond.code ({ cls := "NandHouse", name := "next", desc := "(IZ)I" } : Jvm.MethodName) prog_1_method_44_code (4 : Nat) (Option.some Jvm.ClassFile.FieldType.int)) ∈ lw_all := lw_g (lw_at lw_m6 140 rfl) rfl
theorem q1471 : (Jvm.Cond.methodLink "NandHouse" (350 : Nat) ({ cls := "NandHouse", name := "areDots", desc := "(III)Z" } : Jvm.MethodName)) ∈ lw_all := lw_g (lw_at lw_m6 141 rfl) rfl
theorem q1472 : (Jvm.Cond.privateMethod ({ cls := "NandHouse", name := "areDots", desc := "(III)Z" } : Jvm.MethodName)) ∈ lw_tbl := lw_at lw_m6 142 rfl
theorem q1473 : (Jvm.Cond.instanceMethod ({ cls := "NandHouse", name := "areDots", desc := "(III)Z" } : Jvm.MethodName)) ∈ lw_all := lw_g (lw_at lw_m6 143 rfl) rfl
theorem q1474 : (Jvm.Cond.code ({ cls := "NandHouse", name := "areDots", desc := "(III)Z" } : Jvm.MethodName) prog_1_method_43_code (6 : Nat) (Option.some Jvm.ClassFile.FieldType.boolean)) ∈ lw_all := lw_g (lw_at lw_m6 144 rfl) rfl
theorem q1475 : (Jvm.Cond.methodLink "NandHouse" (353 : Nat) ({ cls := "NandHouse", name := "above", desc := "(I)I" } : Jvm.MethodName)) ∈ lw_all := lw_g (lw_at lw_m6 145 rfl) rfl
theorem q1476 : (Jvm.Cond.privateMethod ({ cls := "NandHouse", name := "above", desc := "(I)I" } : Jvm.MethodName)) ∈ lw_tbl := lw_at lw_m6 146 rfl
theorem q1477 : (Jvm.Cond.instanceMethod ({ cls := "NandHouse", name := "above", desc := "(I)I" } : Jvm.MethodName)) ∈ lw_all := lw_g (lw_at lw_m6 147 rfl) rfl
theorem q1478 : (Jvm.Cond.code ({ cls := "NandHouse", name := "above", desc := "(I)I" } : Jvm.MethodName) prog_1_method_42_code (4 : Nat) (Option.some Jvm.ClassFile.FieldType.int)) ∈ lw_all := lw_g (lw_at lw_m6 148 rfl) rfl
theorem q1479 : (Jvm.Cond.methodLink "NandHouse" (356 : Nat) ({ cls := "NandHouse", name := "piece", desc := "(II)I" } : Jvm.MethodName)) ∈ lw_all := lw_g (lw_at lw_m6 149 rfl) rfl
theorem q1480 : (Jvm.Cond.privateMethod ({ cls := "NandHouse", name := "piece", desc := "(II)I" } : Jvm.MethodName)) ∈ lw_tbl := lw_at lw_m6 150 rfl
theorem q1481 : (Jvm.Cond.instanceMethod ({ cls := "NandHouse", name := "piece", desc := "(II)I" } : Jvm.MethodName)) ∈ lw_all := lw_g (lw_at lw_m6 151 rfl) rfl
theorem q1482 : (Jvm.Cond.code ({ cls := "NandHouse", name := "piece", desc := "(II)I" } : Jvm.MethodName) prog_1_method_63_code (5 : Nat) (Option.some Jvm.ClassFile.FieldType.int)) ∈ lw_all := lw_g (lw_at lw_m6 152 rfl) rfl
theorem q1483 : (Jvm.Cond.methodLink "NandHouse" (371 : Nat) ({ cls := "java/util/Arrays", name := "fill", desc := "([BB)V" } : Jvm.MethodName)) ∈ lw_all := lw_g (lw_at lw_m6 153 rfl) rfl
theorem q1485 : (Jvm.Cond.instanceMethod ({ cls := "NandHouse", name := "path", desc := "(I)I" } : Jvm.MethodName)) ∈ lw_all := lw_g (lw_at lw_m6 155 rfl) rfl
theorem q1486 : (Jvm.Cond.selects "NandHouse" ({ cls := "NandHouse", name := "path", desc := "(I)I" } : Jvm.MethodName) ({ cls := "NandHouse", name := "path", desc := "(I)I" } : Jvm.MethodName)) ∈ lw_all := lw_g (lw_at lw_m6 156 rfl) rfl
theorem q1487 : (Jvm.Cond.code ({ cls := "NandHouse", name := "path", desc := "(I)I" } : Jvm.MethodName) prog_1_method_46_code (7 : Nat) (Option.some Jvm.ClassFile.FieldType.int)) ∈ lw_all := lw_g (lw_at lw_m6 157 rfl) rfl
theorem q1489 : (Jvm.Cond.instanceMethod ({ cls := "NandHouse", name := "taped", desc := "(I)I" } : Jvm.MethodName)) ∈ lw_all := lw_g (lw_at lw_m6 159 rfl) rfl
theorem q1490 : (Jvm.Cond.selects "NandHouse" ({ cls := "NandHouse", name := "taped", desc := "(I)I" } : Jvm.MethodName) ({ cls := "NandHouse", name := "taped", desc := "(I)I" } : Jvm.MethodName)) ∈ lw_all := lw_g (lw_at lw_m6 160 rfl) rfl
theorem q1491 : (Jvm.Cond.code ({ cls := "NandHouse", name := "taped", desc := "(I)I" } : Jvm.MethodName) prog_1_method_47_code (2 : Nat) (Option.some Jvm.ClassFile.FieldType.int)) ∈ lw_all := lw_g (lw_at lw_m6 161 rfl) rfl
theorem q1493 : (Jvm.Cond.instanceMethod ({ cls := "NandHouse", name := "text", desc := "(II)I" } : Jvm.MethodName)) ∈ lw_all := lw_g (lw_at lw_m6 163 rfl) rfl
theorem q1494 : (Jvm.Cond.selects "NandHouse" ({ cls := "NandHouse", name := "text", desc := "(II)I" } : Jvm.MethodName) ({ cls := "NandHouse", name := "text", desc := "(II)I" } : Jvm.MethodName)) ∈ lw_all := lw_g (lw_at lw_m6 164 rfl) rfl
theorem q1495 : (Jvm.Cond.code ({ cls := "NandHouse", name := "text", desc := "(II)I" } : Jvm.MethodName) prog_1_method_48_code (3 : Nat) (Option.some Jvm.ClassFile.FieldType.int)) ∈ lw_all := lw_g (lw_at lw_m6 165 rfl) rfl
theorem q1497 : (Jvm.Cond.instanceMethod ({ cls := "NandHouse", name := "set", desc := "(IJJ)I" } : Jvm.MethodName)) ∈ lw_all := lw_g (lw_at lw_m6 167 rfl) rfl
theorem q1498 : (Jvm.Cond.selects "NandHouse" ({ cls := "NandHouse", name := "set", desc := "(IJJ)I" } : Jvm.MethodName) ({ cls := "NandHouse", name := "set", desc := "(IJJ)I" } : Jvm.MethodName)) ∈ lw_all := lw_g (lw_at lw_m6 168 rfl) rfl
theorem q1499 : (Jvm.Cond.code ({ cls := "NandHouse", name := "set", desc := "(IJJ)I" } : Jvm.MethodName) prog_1_method_51_code (7 : Nat) (Option.some Jvm.ClassFile.FieldType.int)) ∈ lw_all := lw_g (lw_at lw_m6 169 rfl) rfl
theorem q1500 : (Jvm.Cond.methodLink "NandHouse" (360 : Nat) ({ cls := "NandHouse", name := "attributeOf", desc := "(IJ)Z" } : Jvm.MethodName)) ∈ lw_all := lw_g (lw_at lw_m6 170 rfl) rfl
theorem q1501 : (Jvm.Cond.privateMethod ({ cls := "NandHouse", name := "attributeOf", desc := "(IJ)Z" } : Jvm.MethodName)) ∈ lw_tbl := lw_at lw_m6 171 rfl
theorem q1502 : (Jvm.Cond.instanceMethod ({ cls := "NandHouse", name := "attributeOf", desc := "(IJ)Z" } : Jvm.MethodName)) ∈ lw_all := lw_g (lw_at lw_m6 172 rfl) rfl
theorem q1503 : (Jvm.Cond.code ({ cls := "NandHouse", name := "attributeOf", desc := "(IJ)Z" } : Jvm.MethodName) prog_1_method_49_code (5 : Nat) (Option.some Jvm.ClassFile.FieldType.boolean)) ∈ lw_all := lw_g (lw_at lw_m6 173 rfl) rfl
theorem q1504 : (Jvm.Cond.methodLink "NandHouse" (364 : Nat) ({ cls := "NandHouse", name := "handAttribute", desc := "(JJZ)V" } : Jvm.MethodName)) ∈ lw_all := lw_g (lw_at lw_m6 174 rfl) rfl
theorem q1505 : (Jvm.Cond.privateMethod ({ cls := "NandHouse", name := "handAttribute", desc := "(JJZ)V" } : Jvm.MethodName)) ∈ lw_tbl := lw_at lw_m6 175 rfl
theorem q1506 : (Jvm.Cond.instanceMethod ({ cls := "NandHouse", name := "handAttribute", desc := "(JJZ)V" } : Jvm.MethodName)) ∈ lw_all := lw_g (lw_at lw_m6 176 rfl) rfl
theorem q1507 : (Jvm.Cond.code ({ cls := "NandHouse", name := "handAttribute", desc := "(JJZ)V" } : Jvm.MethodName) prog_1_method_50_code (6 : Nat) (Option.none : Option Jvm.ClassFile.FieldType)) ∈ lw_all := lw_g (lw_at lw_m6 177 rfl) rfl
theorem q1509 : (Jvm.Cond.instanceMethod ({ cls := "NandHouse", name := "drop", desc := "(IJ)I" } : Jvm.MethodName)) ∈ lw_all := lw_g (lw_at lw_m6 179 rfl) rfl
theorem q1510 : (Jvm.Cond.selects "NandHouse" ({ cls := "NandHouse", name := "drop", desc := "(IJ)I" } : Jvm.MethodName) ({ cls := "NandHouse", name := "drop", desc := "(IJ)I" } : Jvm.MethodName)) ∈ lw_all := lw_g (lw_at lw_m6 180 rfl) rfl
theorem q1511 : (Jvm.Cond.code ({ cls := "NandHouse", name := "drop", desc := "(IJ)I" } : Jvm.MethodName) prog_1_method_52_code (4 : Nat) (Option.some Jvm.ClassFile.FieldType.int)) ∈ lw_all := lw_g (lw_at lw_m6 181 rfl) rfl
theorem q1513 : (Jvm.Cond.instanceMethod ({ cls := "NandHouse", name := "attribute", desc := "(IJ)J" } : Jvm.MethodName)) ∈ lw_all := lw_g (lw_at lw_m6 183 rfl) rfl
theorem q1514 : (Jvm.Cond.selects "NandHouse" ({ cls := "NandHouse", name := "attribute", desc := "(IJ)J" } : Jvm.MethodName) ({ cls := "NandHouse", name := "attribute", desc := "(IJ)J" } : Jvm.MethodName)) ∈ lw_all := lw_g (lw_at lw_m6 184 rfl) rfl
theorem q1515 : (Jvm.Cond.code ({ cls := "NandHouse", name := "attribute", desc := "(IJ)J" } : Jvm.MethodName) prog_1_method_53_code (4 : Nat) (Option.some Jvm.ClassFile.FieldType.long)) ∈ lw_all := lw_g (lw_at lw_m6 185 rfl) rfl
theorem q1517 : (Jvm.Cond.instanceMethod ({ cls := "NandHouse", name := "attributes", desc := "(I)I" } : Jvm.MethodName)) ∈ lw_all := lw_g (lw_at lw_m6 187 rfl) rfl
theorem q1518 : (Jvm.Cond.selects "NandHouse" ({ cls := "NandHouse", name := "attributes", desc := "(I)I" } : Jvm.MethodName) ({ cls := "NandHouse", name := "attributes", desc := "(I)I" } : Jvm.MethodName)) ∈ lw_all := lw_g (lw_at lw_m6 188 rfl) rfl
theorem q1519 : (Jvm.Cond.code ({ cls := "NandHouse", name := "attributes", desc := "(I)I" } : Jvm.MethodName) prog_1_method_54_code (2 : Nat) (Option.some Jvm.ClassFile.FieldType.int)) ∈ lw_all := lw_g (lw_at lw_m6 189 rfl) rfl
theorem q1521 : (Jvm.Cond.instanceMethod ({ cls := "NandHouse", name := "key", desc := "(II)J" } : Jvm.MethodName)) ∈ lw_all := lw_g (lw_at lw_m6 191 rfl) rfl
theorem q1522 : (Jvm.Cond.selects "NandHouse" ({ cls := "NandHouse", name := "key", desc := "(II)J" } : Jvm.MethodName) ({ cls := "NandHouse", name := "key", desc := "(II)J" } : Jvm.MethodName)) ∈ lw_all := lw_g (lw_at lw_m6 192 rfl) rfl
theorem q1523 : (Jvm.Cond.code ({ cls := "NandHouse", name := "key", desc := "(II)J" } : Jvm.MethodName) prog_1_method_55_code (5 : Nat) (Option.some Jvm.ClassFile.FieldType.long)) ∈ lw_all := lw_g (lw_at lw_m6 193 rfl) rfl
theorem q1525 : (Jvm.Cond.instanceMethod ({ cls := "NandHouse", name := "kind", desc := "(I)I" } : Jvm.MethodName)) ∈ lw_all := lw_g (lw_at lw_m6 195 rfl) rfl
theorem q1526 : (Jvm.Cond.selects "NandHouse" ({ cls := "NandHouse", name := "kind", desc := "(I)I" } : Jvm.MethodName) ({ cls := "NandHouse", name := "kind", desc := "(I)I" } : Jvm.MethodName)) ∈ lw_all := lw_g (lw_at lw_m6 196 rfl) rfl
theorem q1527 : (Jvm.Cond.code ({ cls := "NandHouse", name := "kind", desc := "(I)I" } : Jvm.MethodName) prog_1_method_56_code (2 : Nat) (Option.some Jvm.ClassFile.FieldType.int)) ∈ lw_all := lw_g (lw_at lw_m6 197 rfl) rfl
theorem q1529 : (Jvm.Cond.instanceMethod ({ cls := "NandHouse", name := "count", desc := "(I)I" } : Jvm.MethodName)) ∈ lw_all := lw_g (lw_at lw_m6 199 rfl) rfl
theorem q1530 : (Jvm.Cond.selects "NandHouse" ({ cls := "NandHouse", name := "count", desc := "(I)I" } : Jvm.MethodName) ({ cls := "NandHouse", name := "count", desc := "(I)I" } : Jvm.MethodName)) ∈ lw_all := lw_g (lw_at lw_m6 200 rfl) rfl
theorem q1531 : (Jvm.Cond.code ({ cls := "NandHouse", name := "count", desc := "(I)I" } : Jvm.MethodName) prog_1_method_57_code (2 : Nat) (Option.some Jvm.ClassFile.FieldType.int)) ∈ lw_all := lw_g (lw_at lw_m6 201 rfl) rfl
theorem q1533 : (Jvm.Cond.instanceMethod ({ cls := "NandHouse", name := "size", desc := "(I)I" } : Jvm.MethodName)) ∈ lw_all := lw_g (lw_at lw_m6 203 rfl) rfl
theorem q1534 : (Jvm.Cond.selects "NandHouse" ({ cls := "NandHouse", name := "size", desc := "(I)I" } : Jvm.MethodName) ({ cls := "NandHouse", name := "size", desc := "(I)I" } : Jvm.MethodName)) ∈ lw_all := lw_g (lw_at lw_m6 204 rfl) rfl
theorem q1535 : (Jvm.Cond.code ({ cls := "NandHouse", name := "size", desc := "(I)I" } : Jvm.MethodName) prog_1_method_58_code (2 : Nat) (Option.some Jvm.ClassFile.FieldType.int)) ∈ lw_all := lw_g (lw_at lw_m6 205 rfl) rfl
theorem q1537 : (Jvm.Cond.instanceMethod ({ cls := "NandHouse", name := "open", desc := "(I)I" } : Jvm.MethodName)) ∈ lw_all := lw_g (lw_at lw_m6 207 rfl) rfl
theorem q1538 : (Jvm.Cond.selects "NandHouse" ({ cls := "NandHouse", name := "open", desc := "(I)I" } : Jvm.MethodName) ({ cls := "NandHouse", name := "open", desc := "(I)I" } : Jvm.MethodName)) ∈ lw_all := lw_g (lw_at lw_m6 208 rfl) rfl
theorem q1539 : (Jvm.Cond.code ({ cls := "NandHouse", name := "open", desc := "(I)I" } : Jvm.MethodName) prog_1_method_59_code (3 : Nat) (Option.some Jvm.ClassFile.FieldType.int)) ∈ lw_all := lw_g (lw_at lw_m6 209 rfl) rfl
theorem q1541 : (Jvm.Cond.instanceMethod ({ cls := "NandHouse", name := "close", desc := "(I)I" } : Jvm.MethodName)) ∈ lw_all := lw_g (lw_at lw_m6 211 rfl) rfl
theorem q1542 : (Jvm.Cond.selects "NandHouse" ({ cls := "NandHouse", name := "close", desc := "(I)I" } : Jvm.MethodName) ({ cls := "NandHouse", name := "close", desc := "(I)I" } : Jvm.MethodName)) ∈ lw_all := lw_g (lw_at lw_m6 212 rfl) rfl
theorem q1543 : (Jvm.Cond.code ({ cls := "NandHouse", name := "close", desc := "(I)I" } : Jvm.MethodName) prog_1_method_61_code (3 : Nat) (Option.some Jvm.ClassFile.FieldType.int)) ∈ lw_all := lw_g (lw_at lw_m6 213 rfl) rfl
theorem q1544 : (Jvm.Cond.methodLink "NandHouse" (368 : Nat) ({ cls := "NandHouse", name := "isHandle", desc := "(I)Z" } : Jvm.MethodName)) ∈ lw_all := lw_g (lw_at lw_m6 214 rfl) rfl
theorem q1545 : (Jvm.Cond.privateMethod ({ cls := "NandHouse", name := "isHandle", desc := "(I)Z" } : Jvm.MethodName)) ∈ lw_tbl := lw_at lw_m6 215 rfl
theorem q1546 : (Jvm.Cond.instanceMethod ({ cls := "NandHouse", name := "isHandle", desc := "(I)Z" } : Jvm.MethodName)) ∈ lw_all := lw_g (lw_at lw_m6 216 rfl) rfl
theorem q1547 : (Jvm.Cond.code ({ cls := "NandHouse", name := "isHandle", desc := "(I)Z" } : Jvm.MethodName) prog_1_method_60_code (2 : Nat) (Option.some Jvm.ClassFile.FieldType.boolean)) ∈ lw_all := lw_g (lw_at lw_m6 217 rfl) rfl
theorem q1549 : (Jvm.Cond.instanceMethod ({ cls := "NandHouse", name := "opened", desc := "(I)I" } : Jvm.MethodName)) ∈ lw_all := lw_g (lw_at lw_m6 219 rfl) rfl
theorem q1550 : (Jvm.Cond.selects "NandHouse" ({ cls := "NandHouse", name := "opened", desc := "(I)I" } : Jvm.MethodName) ({ cls := "NandHouse", name := "opened", desc := "(I)I" } : Jvm.MethodName)) ∈ lw_all := lw_g (lw_at lw_m6 220 rfl) rfl
theorem q1551 : (Jvm.Cond.code ({ cls := "NandHouse", name := "opened", desc := "(I)I" } : Jvm.MethodName) prog_1_method_62_code (2 : Nat) (Option.some Jvm.ClassFile.FieldType.int)) ∈ lw_all := lw_g (lw_at lw_m6 221 rfl) rfl
theorem q1553 : (Jvm.Cond.instanceMethod ({ cls := "NandHouse", name := "write", desc := "(IIJI)I" } : Jvm.MethodName)) ∈ lw_all := lw_g (lw_at lw_m6 223 rfl) rfl
theorem q1554 : (Jvm.Cond.selects "NandHouse" ({ cls := "NandHouse", name := "write", desc := "(IIJI)I" } : Jvm.MethodName) ({ cls := "NandHouse", name := "write", desc := "(IIJI)I" } : Jvm.MethodName)) ∈ lw_all := lw_g (lw_at lw_m6 224 rfl) rfl
theorem q1555 : (Jvm.Cond.code ({ cls := "NandHouse", name := "write", desc := "(IIJI)I" } : Jvm.MethodName) prog_1_method_66_code (6 : Nat) (Option.some Jvm.ClassFile.FieldType.int)) ∈ lw_all := lw_g (lw_at lw_m6 225 rfl) rfl
theorem q1556 : (Jvm.Cond.methodLink "NandHouse" (381 : Nat) ({ cls := "NandHouse", name := "put", desc := "(IIIIJ)I" } : Jvm.MethodName)) ∈ lw_all := lw_g (lw_at lw_m6 226 rfl) rfl
theorem q1557 : (Jvm.Cond.privateMethod ({ cls := "NandHouse", name := "put", desc := "(IIIIJ)I" } : Jvm.MethodName)) ∈ lw_tbl := lw_at lw_m6 227 rfl
theorem q1558 : (Jvm.Cond.instanceMethod ({ cls := "NandHouse", name := "put", desc := "(IIIIJ)I" } : Jvm.MethodName)) ∈ lw_all := lw_g (lw_at lw_m6 228 rfl) rfl
theorem q1559 : (Jvm.Cond.code ({ cls := "NandHouse", name := "put", desc := "(IIIIJ)I" } : Jvm.MethodName) prog_1_method_70_code (15 : Nat) (Option.some Jvm.ClassFile.FieldType.int)) ∈ lw_all := lw_g (lw_at lw_m6 229 rfl) rfl
theorem q1560 : (Jvm.Cond.methodLink "NandHouse" (384 : Nat) ({ cls := "java/lang/Math", name := "min", desc := "(II)I" } : Jvm.MethodName)) ∈ lw_all := lw_g (lw_at lw_m6 230 rfl) rfl
theorem q1561 : (Jvm.Cond.methodLink "NandHouse" (391 : Nat) ({ cls := "java/lang/Math", name := "max", desc := "(II)I" } : Jvm.MethodName)) ∈ lw_all := lw_g (lw_at lw_m6 231 rfl) rfl
theorem q1562 : (Jvm.Cond.methodLink "NandHouse" (394 : Nat) ({ cls := "NandHouse", name := "byteOf", desc := "(IJI)B" } : Jvm.MethodName)) ∈ lw_all := lw_g (lw_at lw_m6 232 rfl) rfl
theorem q1563 : (Jvm.Cond.privateMethod ({ cls := "NandHouse", name := "byteOf", desc := "(IJI)B" } : Jvm.MethodName)) ∈ lw_tbl := lw_at lw_m6 233 rfl
theorem q1564 : (Jvm.Cond.instanceMethod ({ cls := "NandHouse", name := "byteOf", desc := "(IJI)B" } : Jvm.MethodName)) ∈ lw_all := lw_g (lw_at lw_m6 234 rfl) rfl
theorem q1565 : (Jvm.Cond.code ({ cls := "NandHouse", name := "byteOf", desc := "(IJI)B" } : Jvm.MethodName) prog_1_method_69_code (5 : Nat) (Option.some Jvm.ClassFile.FieldType.byte)) ∈ lw_all := lw_g (lw_at lw_m6 235 rfl) rfl
theorem q1566 : (Jvm.Cond.constantLong "NandHouse" (389 : Nat) (7 : Int64)) ∈ lw_all := lw_g (lw_at lw_m6 236 rfl) rfl
theorem q1568 : (Jvm.Cond.instanceMethod ({ cls := "NandHouse", name := "fill", desc := "(IIII)I" } : Jvm.MethodName)) ∈ lw_all := lw_g (lw_at lw_m6 238 rfl) rfl
theorem q1569 : (Jvm.Cond.selects "NandHouse" ({ cls := "NandHouse", name := "fill", desc := "(IIII)I" } : Jvm.MethodName) ({ cls := "NandHouse", name := "fill", desc := "(IIII)I" } : Jvm.MethodName)) ∈ lw_all := lw_g (lw_at lw_m6 239 rfl) rfl
theorem q1570 : (Jvm.Cond.code ({ cls := "NandHouse", name := "fill", desc := "(IIII)I" } : Jvm.MethodName) prog_1_method_67_code (5 : Nat) (Option.some Jvm.ClassFile.FieldType.int)) ∈ lw_all := lw_g (lw_at lw_m7 0 rfl) rfl
theorem q1572 : (Jvm.Cond.instanceMethod ({ cls := "NandHouse", name := "copy", desc := "(IIIII)I" } : Jvm.MethodName)) ∈ lw_all := lw_g (lw_at lw_m7 2 rfl) rfl
theorem q1573 : (Jvm.Cond.selects "NandHouse" ({ cls := "NandHouse", name := "copy", desc := "(IIIII)I" } : Jvm.MethodName) ({ cls := "NandHouse", name := "copy", desc := "(IIIII)I" } : Jvm.MethodName)) ∈ lw_all := lw_g (lw_at lw_m7 3 rfl) rfl
theorem q1574 : (Jvm.Cond.code ({ cls := "NandHouse", name := "copy", desc := "(IIIII)I" } : Jvm.MethodName) prog_1_method_68_code (10 : Nat) (Option.some Jvm.ClassFile.FieldType.int)) ∈ lw_all := lw_g (lw_at lw_m7 4 rfl) rfl
theorem q1576 : (Jvm.Cond.instanceMethod ({ cls := "NandHouse", name := "resize", desc := "(II)I" } : Jvm.MethodName)) ∈ lw_all := lw_g (lw_at lw_m7 6 rfl) rfl
theorem q1577 : (Jvm.Cond.selects "NandHouse" ({ cls := "NandHouse", name := "resize", desc := "(II)I" } : Jvm.MethodName) ({ cls := "NandHouse", name := "resize", desc := "(II)I" } : Jvm.MethodName)) ∈ lw_all := lw_g (lw_at lw_m7 7 rfl) rfl
theorem q1578 : (Jvm.Cond.code ({ cls := "NandHouse", name := "resize", desc := "(II)I" } : Jvm.MethodName) prog_1_method_71_code (8 : Nat) (Option.some Jvm.ClassFile.FieldType.int)) ∈ lw_all := lw_g (lw_at lw_m7 8 rfl) rfl
theorem q1580 : (Jvm.Cond.instanceMethod ({ cls := "NandHouse", name := "byteAt", desc := "(II)I" } : Jvm.MethodName)) ∈ lw_all := lw_g (lw_at lw_m7 10 rfl) rfl
theorem q1581 : (Jvm.Cond.selects "NandHouse" ({ cls := "NandHouse", name := "byteAt", desc := "(II)I" } : Jvm.MethodName) ({ cls := "NandHouse", name := "byteAt", desc := "(II)I" } : Jvm.MethodName)) ∈ lw_all := lw_g (lw_at lw_m7 11 rfl) rfl
theorem q1582 : (Jvm.Cond.code ({ cls := "NandHouse", name := "byteAt", desc := "(II)I" } : Jvm.MethodName) prog_1_method_72_code (3 : Nat) (Option.some Jvm.ClassFile.FieldType.int)) ∈ lw_all := lw_g (lw_at lw_m7 12 rfl) rfl
theorem q1584 : (Jvm.Cond.instanceMethod ({ cls := "NandHouse", name := "word", desc := "(II)J" } : Jvm.MethodName)) ∈ lw_all := lw_g (lw_at lw_m7 14 rfl) rfl
theorem q1585 : (Jvm.Cond.selects "NandHouse" ({ cls := "NandHouse", name := "word", desc := "(II)J" } : Jvm.MethodName) ({ cls := "NandHouse", name := "word", desc := "(II)J" } : Jvm.MethodName)) ∈ lw_all := lw_g (lw_at lw_m7 15 rfl) rfl
theorem q1586 : (Jvm.Cond.code ({ cls := "NandHouse", name := "word", desc := "(II)J" } : Jvm.MethodName) prog_1_method_73_code (6 : Nat) (Option.some Jvm.ClassFile.FieldType.long)) ∈ lw_all := lw_g (lw_at lw_m7 16 rfl) rfl
theorem q1587 : (Jvm.Cond.constant "NandHouse" (400 : Nat) (2147483647 : Int32)) ∈ lw_all := lw_g (lw_at lw_m7 17 rfl) rfl
theorem q1589 : (Jvm.Cond.instanceMethod ({ cls := "NandHouse", name := "sum", desc := "(I)J" } : Jvm.MethodName)) ∈ lw_all := lw_g (lw_at lw_m7 19 rfl) rfl
theorem q1590 : (Jvm.Cond.selects "NandHouse" ({ cls := "NandHouse", name := "sum", desc := "(I)J" } : Jvm.MethodName) ({ cls := "NandHouse", name := "sum", desc := "(I)J" } : Jvm.MethodName)) ∈ lw_all := lw_g (lw_at lw_m7 20 rfl) rfl
theorem q1591 : (Jvm.Cond.code ({ cls := "NandHouse", name := "sum", desc := "(I)J" } : Jvm.MethodName) prog_1_method_74_code (7 : Nat) (Option.some Jvm.ClassFile.FieldType.long)) ∈ lw_all := lw_g (lw_at lw_m7 21 rfl) rfl
theorem q1593 : (Jvm.Cond.instanceMethod ({ cls := "NandHouse", name := "rawWrite", desc := "(II)I" } : Jvm.MethodName)) ∈ lw_all := lw_g (lw_at lw_m7 23 rfl) rfl
theorem q1594 : (Jvm.Cond.selects "NandHouse" ({ cls := "NandHouse", name := "rawWrite", desc := "(II)I" } : Jvm.MethodName) ({ cls := "NandHouse", name := "rawWrite", desc := "(II)I" } : Jvm.MethodName)) ∈ lw_all := lw_g (lw_at lw_m7 24 rfl) rfl
theorem q1595 : (Jvm.Cond.code ({ cls := "NandHouse", name := "rawWrite", desc := "(II)I" } : Jvm.MethodName) prog_1_method_76_code (3 : Nat) (Option.some Jvm.ClassFile.FieldType.int)) ∈ lw_all := lw_g (lw_at lw_m7 25 rfl) rfl
theorem q1596 : (Jvm.Cond.methodLink "NandHouse" (401 : Nat) ({ cls := "NandHouse", name := "isRaw", desc := "(I)Z" } : Jvm.MethodName)) ∈ lw_all := lw_g (lw_at lw_m7 26 rfl) rfl
theorem q1597 : (Jvm.Cond.privateMethod ({ cls := "NandHouse", name := "isRaw", desc := "(I)Z" } : Jvm.MethodName)) ∈ lw_tbl := lw_at lw_m7 27 rfl
theorem q1598 : (Jvm.Cond.instanceMethod ({ cls := "NandHouse", name := "isRaw", desc := "(I)Z" } : Jvm.MethodName)) ∈ lw_all := lw_g (lw_at lw_m7 28 rfl) rfl
theorem q1599 : (Jvm.Cond.code ({ cls := "NandHouse", name := "isRaw", desc := "(I)Z" } : Jvm.MethodName) prog_1_method_75_code (2 : Nat) (Option.some Jvm.ClassFile.FieldType.boolean)) ∈ lw_all := lw_g (lw_at lw_m7 29 rfl) rfl
theorem q1600 : (Jvm.Cond.methodLink "NandHouse" (408 : Nat) ({ cls := "NandHouse$Blocks", name := "written", desc := "(I)I" } : Jvm.MethodName)) ∈ lw_all := lw_g (lw_at lw_m7 30 rfl) rfl
theorem q1601 : (Jvm.Cond.methodLink "NandHouse" (413 : Nat) ({ cls := "NandHouse$Blocks", name := "pages", desc := "()I" } : Jvm.MethodName)) ∈ lw_all := lw_g (lw_at lw_m7 31 rfl) rfl
theorem q1602 : (Jvm.Cond.methodLink "NandHouse" (416 : Nat) ({ cls := "NandHouse$Blocks", name := "writeRule", desc := "(II)I" } : Jvm.MethodName)) ∈ lw_all := lw_g (lw_at lw_m7 32 rfl) rfl
theorem q1613 : (Jvm.Cond.instanceMethod ({ cls := "NandHouse", name := "rawChange", desc := "(III)I" } : Jvm.MethodName)) ∈ lw_all := lw_g (lw_at lw_m7 43 rfl) rfl
theorem q1614 : (Jvm.Cond.selects "NandHouse" ({ cls := "NandHouse", name := "rawChange", desc := "(III)I" } : Jvm.MethodName) ({ cls := "NandHouse", name := "rawChange", desc := "(III)I" } : Jvm.MethodName)) ∈ lw_all := lw_g (lw_at lw_m7 44 rfl) rfl
theorem q1615 : (Jvm.Cond.code ({ cls := "NandHouse", name := "rawChange", desc := "(III)I" } : Jvm.MethodName) prog_1_method_77_code (5 : Nat) (Option.some Jvm.ClassFile.FieldType.int)) ∈ lw_all := lw_g (lw_at lw_m7 45 rfl) rfl
theorem q1616 : (Jvm.Cond.methodLink "NandHouse" (419 : Nat) ({ cls := "NandHouse$Blocks", name := "change", desc := "(III)V" } : Jvm.MethodName)) ∈ lw_all := lw_g (lw_at lw_m7 46 rfl) rfl
theorem q1621 : (Jvm.Cond.instanceMethod ({ cls := "NandHouse", name := "rawByte", desc := "(II)I" } : Jvm.MethodName)) ∈ lw_all := lw_g (lw_at lw_m7 51 rfl) rfl
theorem q1622 : (Jvm.Cond.selects "NandHouse" ({ cls := "NandHouse", name := "rawByte", desc := "(II)I" } : Jvm.MethodName) ({ cls := "NandHouse", name := "rawByte", desc := "(II)I" } : Jvm.MethodName)) ∈ lw_all := lw_g (lw_at lw_m7 52 rfl) rfl
theorem q1623 : (Jvm.Cond.code ({ cls := "NandHouse", name := "rawByte", desc := "(II)I" } : Jvm.MethodName) prog_1_method_78_code (3 : Nat) (Option.some Jvm.ClassFile.FieldType.int)) ∈ lw_all := lw_g (lw_at lw_m7 53 rfl) rfl
theorem q1624 : (Jvm.Cond.methodLink "NandHouse" (422 : Nat) ({ cls := "NandHouse$Blocks", name := "read", desc := "(II[BI)V" } : Jvm.MethodName)) ∈ lw_all := lw_g (lw_at lw_m7 54 rfl) rfl
theorem q1626 : (Jvm.Cond.instanceMethod ({ cls := "NandHouse", name := "rawPages", desc := "(I)I" } : Jvm.MethodName)) ∈ lw_all := lw_g (lw_at lw_m7 56 rfl) rfl
theorem q1627 : (Jvm.Cond.selects "NandHouse" ({ cls := "NandHouse", name := "rawPages", desc := "(I)I" } : Jvm.MethodName) ({ cls := "NandHouse", name := "rawPages", desc := "(I)I" } : Jvm.MethodName)) ∈ lw_all := lw_g (lw_at lw_m7 57 rfl) rfl
theorem q1628 : (Jvm.Cond.code ({ cls := "NandHouse", name := "rawPages", desc := "(I)I" } : Jvm.MethodName) prog_1_method_79_code (2 : Nat) (Option.some Jvm.ClassFile.FieldType.int)) ∈ lw_all := lw_g (lw_at lw_m7 58 rfl) rfl
theorem q1630 : (Jvm.Cond.instanceMethod ({ cls := "NandHouse", name := "sync", desc := "()I" } : Jvm.MethodName)) ∈ lw_all := lw_g (lw_at lw_m7 60 rfl) rfl
theorem q1631 : (Jvm.Cond.selects "NandHouse" ({ cls := "NandHouse", name := "sync", desc := "()I" } : Jvm.MethodName) ({ cls := "NandHouse", name := "sync", desc := "()I" } : Jvm.MethodName)) ∈ lw_all := lw_g (lw_at lw_m7 61 rfl) rfl
theorem q1632 : (Jvm.Cond.code ({ cls := "NandHouse", name := "sync", desc := "()I" } : Jvm.MethodName) prog_1_method_80_code (2 : Nat) (Option.some Jvm.ClassFile.FieldType.int)) ∈ lw_all := lw_g (lw_at lw_m7 62 rfl) rfl
theorem q1633 : (Jvm.Cond.methodLink "NandHouse" (428 : Nat) ({ cls := "NandHouse$Store", name := "sync", desc := "()V" } : Jvm.MethodName)) ∈ lw_all := lw_g (lw_at lw_m7 63 rfl) rfl
theorem q1635 : (Jvm.Cond.instanceMethod ({ cls := "NandHouse", name := "waiting", desc := "()I" } : Jvm.MethodName)) ∈ lw_all := lw_g (lw_at lw_m7 65 rfl) rfl
theorem q1636 : (Jvm.Cond.selects "NandHouse" ({ cls := "NandHouse", name := "waiting", desc := "()I" } : Jvm.MethodName) ({ cls := "NandHouse", name := "waiting", desc := "()I" } : Jvm.MethodName)) ∈ lw_all := lw_g (lw_at lw_m7 66 rfl) rfl
theorem q1637 : (Jvm.Cond.code ({ cls := "NandHouse", name := "waiting", desc := "()I" } : Jvm.MethodName) prog_1_method_81_code (1 : Nat) (Option.some Jvm.ClassFile.FieldType.int)) ∈ lw_all := lw_g (lw_at lw_m7 67 rfl) rfl
theorem q1639 : (Jvm.Cond.instanceMethod ({ cls := "NandHouse", name := "cut", desc := "()I" } : Jvm.MethodName)) ∈ lw_all := lw_g (lw_at lw_m7 69 rfl) rfl
theorem q1640 : (Jvm.Cond.selects "NandHouse" ({ cls := "NandHouse", name := "cut", desc := "()I" } : Jvm.MethodName) ({ cls := "NandHouse", name := "cut", desc := "()I" } : Jvm.MethodName)) ∈ lw_all := lw_g (lw_at lw_m7 70 rfl) rfl
theorem q1641 : (Jvm.Cond.code ({ cls := "NandHouse", name := "cut", desc := "()I" } : Jvm.MethodName) prog_1_method_82_code (2 : Nat) (Option.some Jvm.ClassFile.FieldType.int)) ∈ lw_all := lw_g (lw_at lw_m7 71 rfl) rfl
theorem q1642 : (Jvm.Cond.methodLink "NandHouse" (431 : Nat) ({ cls := "NandHouse$Store", name := "lose", desc := "()V" } : Jvm.MethodName)) ∈ lw_all := lw_g (lw_at lw_m7 72 rfl) rfl
theorem q1650 : (Jvm.Cond.methodLink "NandHouse" (434 : Nat) ({ cls := "java/util/Arrays", name := "fill", desc := "([II)V" } : Jvm.MethodName)) ∈ lw_all := lw_g (lw_at lw_m7 80 rfl) rfl
theorem q1652 : (Jvm.Cond.instanceMethod ({ cls := "NandHouse", name := "on", desc := "()I" } : Jvm.MethodName)) ∈ lw_all := lw_g (lw_at lw_m7 82 rfl) rfl
theorem q1653 : (Jvm.Cond.selects "NandHouse" ({ cls := "NandHouse", name := "on", desc := "()I" } : Jvm.MethodName) ({ cls := "NandHouse", name := "on", desc := "()I" } : Jvm.MethodName)) ∈ lw_all := lw_g (lw_at lw_m7 83 rfl) rfl
theorem q1654 : (Jvm.Cond.code ({ cls := "NandHouse", name := "on", desc := "()I" } : Jvm.MethodName) prog_1_method_83_code (3 : Nat) (Option.some Jvm.ClassFile.FieldType.int)) ∈ lw_all := lw_g (lw_at lw_m7 84 rfl) rfl
theorem q1655 : (Jvm.Cond.methodLink "NandHouse" (437 : Nat) ({ cls := "NandHouse$Store", name := "find", desc := "()V" } : Jvm.MethodName)) ∈ lw_all := lw_g (lw_at lw_m7 85 rfl) rfl
theorem q1723 : (Jvm.Cond.methodLink "NandHouse" (445 : Nat) ({ cls := "NandHouse$Store", name := "forget", desc := "(I)V" } : Jvm.MethodName)) ∈ lw_all := lw_g (lw_at lw_m7 153 rfl) rfl
theorem q1724 : (Jvm.Cond.methodLink "NandHouse" (448 : Nat) ({ cls := "NandHouse$Store", name := "settle", desc := "()V" } : Jvm.MethodName)) ∈ lw_all := lw_g (lw_at lw_m7 154 rfl) rfl
theorem q1730 : (Jvm.Cond.instanceMethod ({ cls := "NandHouse", name := "work", desc := "()V" } : Jvm.MethodName)) ∈ lw_all := lw_g (lw_at lw_m7 160 rfl) rfl
theorem q1731 : (Jvm.Cond.selects "NandHouse" ({ cls := "NandHouse", name := "work", desc := "()V" } : Jvm.MethodName) ({ cls := "NandHouse", name := "work", desc := "()V" } : Jvm.MethodName)) ∈ lw_all := lw_g (lw_at lw_m7 161 rfl) rfl
theorem q1732 : (Jvm.Cond.code ({ cls := "NandHouse", name := "work", desc := "()V" } : Jvm.MethodName) prog_1_method_84_code (1 : Nat) (Option.none : Option Jvm.ClassFile.FieldType)) ∈ lw_all := lw_g (lw_at lw_m7 162 rfl) rfl
theorem q1733 : (Jvm.Cond.methodLink "NandHouse" (451 : Nat) ({ cls := "NandHouse$Store", name := "work", desc := "()V" } : Jvm.MethodName)) ∈ lw_all := lw_g (lw_at lw_m7 163 rfl) rfl
theorem q1771 : (Jvm.Cond.instanceMethod ({ cls := "NandHouse", name := "fail", desc := "(I)Z" } : Jvm.MethodName)) ∈ lw_all := lw_g (lw_at lw_m7 201 rfl) rfl
theorem q1772 : (Jvm.Cond.selects "NandHouse" ({ cls := "NandHouse", name := "fail", desc := "(I)Z" } : Jvm.MethodName) ({ cls := "NandHouse", name := "fail", desc := "(I)Z" } : Jvm.MethodName)) ∈ lw_all := lw_g (lw_at lw_m7 202 rfl) rfl
theorem q1773 : (Jvm.Cond.code ({ cls := "NandHouse", name := "fail", desc := "(I)Z" } : Jvm.MethodName) prog_1_method_85_code (2 : Nat) (Option.some Jvm.ClassFile.FieldType.boolean)) ∈ lw_all := lw_g (lw_at lw_m7 203 rfl) rfl
theorem q1774 : (Jvm.Cond.methodLink "NandHouse" (457 : Nat) ({ cls := "NandHouse$Flash", name := "failIn", desc := "(I)V" } : Jvm.MethodName)) ∈ lw_all := lw_g (lw_at lw_m7 204 rfl) rfl
theorem q1779 : (Jvm.Cond.instanceMethod ({ cls := "NandHouse", name := "flip", desc := "(I)Z" } : Jvm.MethodName)) ∈ lw_all := lw_g (lw_at lw_m7 209 rfl) rfl
theorem q1780 : (Jvm.Cond.selects "NandHouse" ({ cls := "NandHouse", name := "flip", desc := "(I)Z" } : Jvm.MethodName) ({ cls := "NandHouse", name := "flip", desc := "(I)Z" } : Jvm.MethodName)) ∈ lw_all := lw_g (lw_at lw_m7 210 rfl) rfl
theorem q1781 : (Jvm.Cond.code ({ cls := "NandHouse", name := "flip", desc := "(I)Z" } : Jvm.MethodName) prog_1_method_86_code (2 : Nat) (Option.some Jvm.ClassFile.FieldType.boolean)) ∈ lw_all := lw_g (lw_at lw_m7 211 rfl) rfl
theorem q1782 : (Jvm.Cond.methodLink "NandHouse" (463 : Nat) ({ cls := "NandHouse$Flash", name := "turn", desc := "(I)V" } : Jvm.MethodName)) ∈ lw_all := lw_g (lw_at lw_m7 212 rfl) rfl
theorem q1787 : (Jvm.Cond.instanceMethod ({ cls := "NandHouse", name := "told", desc := "(I)I" } : Jvm.MethodName)) ∈ lw_all := lw_g (lw_at lw_m7 217 rfl) rfl
theorem q1788 : (Jvm.Cond.selects "NandHouse" ({ cls := "NandHouse", name := "told", desc := "(I)I" } : Jvm.MethodName) ({ cls := "NandHouse", name := "told", desc := "(I)I" } : Jvm.MethodName)) ∈ lw_all := lw_g (lw_at lw_m7 218 rfl) rfl
theorem q1789 : (Jvm.Cond.code ({ cls := "NandHouse", name := "told", desc := "(I)I" } : Jvm.MethodName) prog_1_method_87_code (2 : Nat) (Option.some Jvm.ClassFile.FieldType.int)) ∈ lw_all := lw_g (lw_at lw_m7 219 rfl) rfl
theorem q1790 : (Jvm.Cond.methodLink "NandHouse" (466 : Nat) ({ cls := "NandHouse", name := "openHandles", desc := "()I" } : Jvm.MethodName)) ∈ lw_all := lw_g (lw_at lw_m7 220 rfl) rfl
theorem q1791 : (Jvm.Cond.privateMethod ({ cls := "NandHouse", name := "openHandles", desc := "()I" } : Jvm.MethodName)) ∈ lw_tbl := lw_at lw_m7 221 rfl
theorem q1792 : (Jvm.Cond.instanceMethod ({ cls := "NandHouse", name := "openHandles", desc := "()I" } : Jvm.MethodName)) ∈ lw_all := lw_g (lw_at lw_m7 222 rfl) rfl
theorem q1793 : (Jvm.Cond.code ({ cls := "NandHouse", name := "openHandles", desc := "()I" } : Jvm.MethodName) prog_1_method_88_code (3 : Nat) (Option.some Jvm.ClassFile.FieldType.int)) ∈ lw_all := lw_g (lw_at lw_m7 223 rfl) rfl
theorem q1794 : (Jvm.Cond.methodLink "NandHouse" (469 : Nat) ({ cls := "NandHouse$Store", name := "place", desc := "()I" } : Jvm.MethodName)) ∈ lw_all := lw_g (lw_at lw_m7 224 rfl) rfl
theorem q1799 : (Jvm.Cond.instanceMethod ({ cls := "NandHouse", name := "sound", desc := "()Z" } : Jvm.MethodName)) ∈ lw_all := lw_g (lw_at lw_m7 229 rfl) rfl
theorem q1800 : (Jvm.Cond.selects "NandHouse" ({ cls := "NandHouse", name := "sound", desc := "()Z" } : Jvm.MethodName) ({ cls := "NandHouse", name := "sound", desc := "()Z" } : Jvm.MethodName)) ∈ lw_all := lw_g (lw_at lw_m7 230 rfl) rfl
theorem q1801 : (Jvm.Cond.code ({ cls := "NandHouse", name := "sound", desc := "()Z" } : Jvm.MethodName) prog_1_method_89_code (1 : Nat) (Option.some Jvm.ClassFile.FieldType.boolean)) ∈ lw_all := lw_g (lw_at lw_m7 231 rfl) rfl
theorem q1802 : (Jvm.Cond.methodLink "NandHouse" (471 : Nat) ({ cls := "NandHouse$Store", name := "isSound", desc := "([I)Z" } : Jvm.MethodName)) ∈ lw_all := lw_g (lw_at lw_m7 232 rfl) rfl
theorem q1822 : (Jvm.Cond.methodLink "NandHouse" (475 : Nat) ({ cls := "NandHouse", name := "goesTogether", desc := "()Z" } : Jvm.MethodName)) ∈ lw_all := lw_g (lw_at lw_m8 12 rfl) rfl
theorem q1823 : (Jvm.Cond.privateMethod ({ cls := "NandHouse", name := "goesTogether", desc := "()Z" } : Jvm.MethodName)) ∈ lw_tbl := lw_at lw_m8 13 rfl
theorem q1824 : (Jvm.Cond.instanceMethod ({ cls := "NandHouse", name := "goesTogether", desc := "()Z" } : Jvm.MethodName)) ∈ lw_all := lw_g (lw_at lw_m8 14 rfl) rfl
theorem q1825 : (Jvm.Cond.code ({ cls := "NandHouse", name := "goesTogether", desc := "()Z" } : Jvm.MethodName) prog_1_method_90_code (14 : Nat) (Option.some Jvm.ClassFile.FieldType.boolean)) ∈ lw_all := lw_g (lw_at lw_m8 15 rfl) rfl
theorem q1826 : (Jvm.Cond.methodLink "NandHouse" (482 : Nat) ({ cls := "NandHouse", name := "many", desc := "(II)I" } : Jvm.MethodName)) ∈ lw_all := lw_g (lw_at lw_m8 16 rfl) rfl
theorem q1827 : (Jvm.Cond.privateMethod ({ cls := "NandHouse", name := "many", desc := "(II)I" } : Jvm.MethodName)) ∈ lw_tbl := lw_at lw_m8 17 rfl
theorem q1828 : (Jvm.Cond.instanceMethod ({ cls := "NandHouse", name := "many", desc := "(II)I" } : Jvm.MethodName)) ∈ lw_all := lw_g (lw_at lw_m8 18 rfl) rfl
theorem q1829 : (Jvm.Cond.code ({ cls := "NandHouse", name := "many", desc := "(II)I" } : Jvm.MethodName) prog_1_method_91_code (7 : Nat) (Option.some Jvm.ClassFile.FieldType.int)) ∈ lw_all := lw_g (lw_at lw_m8 19 rfl) rfl
theorem q1830 : (Jvm.Cond.methodLink "NandHouse" (485 : Nat) ({ cls := "NandHouse", name := "linksOf", desc := "(II)I" } : Jvm.MethodName)) ∈ lw_all := lw_g (lw_at lw_m8 20 rfl) rfl
theorem q1831 : (Jvm.Cond.privateMethod ({ cls := "NandHouse", name := "linksOf", desc := "(II)I" } : Jvm.MethodName)) ∈ lw_tbl := lw_at lw_m8 21 rfl
theorem q1832 : (Jvm.Cond.instanceMethod ({ cls := "NandHouse", name := "linksOf", desc := "(II)I" } : Jvm.MethodName)) ∈ lw_all := lw_g (lw_at lw_m8 22 rfl) rfl
theorem q1833 : (Jvm.Cond.code ({ cls := "NandHouse", name := "linksOf", desc := "(II)I" } : Jvm.MethodName) prog_1_method_92_code (5 : Nat) (Option.some Jvm.ClassFile.FieldType.int)) ∈ lw_all := lw_g (lw_at lw_m8 23 rfl) rfl
theorem q1834 : (Jvm.Cond.constantLong "NandHouse" (488 : Nat) (64 : Int64)) ∈ lw_all := lw_g (lw_at lw_m8 24 rfl) rfl
theorem q1835 : (Jvm.Cond.constantLong "NandHouse" (490 : Nat) (-1 : Int64)) ∈ lw_all := lw_g (lw_at lw_m8 25 rfl) rfl
theorem q1836 : (Jvm.Cond.methodLink "NandHouse" (478 : Nat) ({ cls := "NandHouse$Store", name := "isLike", desc := "(LNandHouse$Store;)Z" } : Jvm.MethodName)) ∈ lw_all := lw_g (lw_at lw_m8 26 rfl) rfl
theorem in_X1 : ∀ w ∈ wsX10, w ∈ lw_all := lw_in wsX10 [1100, 1102, 1104, 1106, 1108, 1110, 1112, 1114, 1116, 1118, 1120, 1122, 1124, 1126, 1128, 1130, 1132, 1134, 1136, 1138, 1140, 1142, 1144, 1146, 1148, 1150, 1152, 1154, 1156, 1158] (by decide +kernel) (by decide +kernel)
