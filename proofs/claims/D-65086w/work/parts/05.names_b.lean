/-! NandHouse$Blocks -/
set_option maxRecDepth 100000
def RX6 : String := "NandHouse$Blocks"
def TX6 : u_T := fun k => match k with
  | 0 => ("NandHouse$Blocks", "flash", "LNandHouse$Flash;", true)
  | 1 => ("NandHouse$Blocks", "numbers", "I", true)
  | 2 => ("NandHouse$Blocks", "blockOf", "[I", true)
  | 3 => ("NandHouse$Blocks", "carried", "[I", true)
  | 4 => ("NandHouse$Blocks", "erasures", "[I", true)
  | 5 => ("NandHouse$Blocks", "serial", "J", false)
  | 6 => ("NandHouse$Blocks", "page", "[B", true)
  | 7 => ("NandHouse$Blocks", "copy", "[B", true)
  | 8 => ("NandHouse$Blocks", "made", "[B", true)
  | 9 => ("NandHouse$Blocks", "moving", "I", false)
  | 10 => ("NandHouse$Blocks", "target", "I", false)
  | 11 => ("NandHouse$Blocks", "moved", "I", false)
  | 12 => ("NandHouse$Blocks", "toMove", "I", false)
  | 13 => ("NandHouse$Blocks", "headNumber", "I", false)
  | 14 => ("NandHouse$Blocks", "headSerial", "J", false)
  | 15 => ("NandHouse$Blocks", "headCopy", "Z", false)
  | 16 => ("NandHouse$Blocks", "headPages", "I", false)
  | _ => ("NandHouse$Blocks", "headCheck", "I", false)
def tyX6 : Nat → FieldType := fun k => match k with
  | 0 => .object "NandHouse$Flash"
  | 1 => .int
  | 2 => .array .int
  | 3 => .array .int
  | 4 => .array .int
  | 5 => .long
  | 6 => .array .byte
  | 7 => .array .byte
  | 8 => .array .byte
  | 9 => .int
  | 10 => .int
  | 11 => .int
  | 12 => .int
  | 13 => .int
  | 14 => .long
  | 15 => .boolean
  | 16 => .int
  | _ => .int
abbrev wsX60 : List Cond := u_ws RX6 TX6 18
set_option maxRecDepth 100000 in
theorem nmX6 : ∀ a, a < 18 → ∀ b, b < 18 → a ≠ b → (TX6 a).2.1 ≠ (TX6 b).2.1 := by decide +kernel
set_option maxRecDepth 100000 in
theorem tyX6_ok : ∀ k, k < 18 → parseFieldDescriptor (TX6 k).2.2.1 = some (tyX6 k) := by decide +kernel
abbrev cX6_init : ByteArray := prog_2_method_1_code
def yX6_init : MethodName := ⟨RX6, "<init>", "(LNandHouse$Flash;I)V"⟩
def dkwX6_init_3 : List UInt8 := [181, 0, 44, 177]
abbrev dktX6_init_3 : List UInt8 := dkwX6_init_3 ++ []
def dkwX6_init_2 : List UInt8 := [28, 188, 10, 181, 0, 32, 42, 43, 180, 0, 36, 188, 10, 181, 0, 41, 42, 43, 180, 0, 36, 188, 10]
abbrev dktX6_init_2 : List UInt8 := dkwX6_init_2 ++ dktX6_init_3
def dkwX6_init_1 : List UInt8 := [17, 0, 128, 188, 8, 181, 0, 18, 42, 2, 181, 0, 21, 42, 43, 181, 0, 25, 42, 28, 181, 0, 29, 42]
abbrev dktX6_init_1 : List UInt8 := dkwX6_init_1 ++ dktX6_init_2
def dkwX6_init_0 : List UInt8 := [42, 183, 0, 3, 42, 17, 0, 128, 188, 8, 181, 0, 9, 42, 17, 0, 128, 188, 8, 181, 0, 15, 42]
abbrev dktX6_init_0 : List UInt8 := dkwX6_init_0 ++ dktX6_init_1
theorem dksX6_init_0 : cX6_init.data.toList.drop 0 = dktX6_init_0 := by decide +kernel
theorem dksX6_init_1 : cX6_init.data.toList.drop 23 = dktX6_init_1 := dk_seg dksX6_init_0 23 rfl rfl
theorem dksX6_init_2 : cX6_init.data.toList.drop 47 = dktX6_init_2 := dk_seg dksX6_init_1 24 rfl rfl
theorem dksX6_init_3 : cX6_init.data.toList.drop 70 = dktX6_init_3 := dk_seg dksX6_init_2 23 rfl rfl
theorem dX6_init_0 : decode cX6_init 0 = .ok (.aload_n 0, 1) := dk_42 (dk_at dksX6_init_0 0 rfl rfl)
theorem dX6_init_1 : decode cX6_init 1 = .ok (.invokespecial 3, 3) := dk_183 0 3 (dk_at dksX6_init_0 1 rfl rfl)
theorem dX6_init_4 : decode cX6_init 4 = .ok (.aload_n 0, 1) := dk_42 (dk_at dksX6_init_0 4 rfl rfl)
theorem dX6_init_5 : decode cX6_init 5 = .ok (.sipush 128, 3) := dk_17 0 128 (dk_at dksX6_init_0 5 rfl rfl)
theorem dX6_init_8 : decode cX6_init 8 = .ok (.newarray .byte, 2) := dk_188_8 (dk_at dksX6_init_0 8 rfl rfl)
theorem dX6_init_10 : decode cX6_init 10 = .ok (.putfield 9, 3) := dk_181 0 9 (dk_at dksX6_init_0 10 rfl rfl)
theorem dX6_init_13 : decode cX6_init 13 = .ok (.aload_n 0, 1) := dk_42 (dk_at dksX6_init_0 13 rfl rfl)
theorem dX6_init_14 : decode cX6_init 14 = .ok (.sipush 128, 3) := dk_17 0 128 (dk_at dksX6_init_0 14 rfl rfl)
theorem dX6_init_17 : decode cX6_init 17 = .ok (.newarray .byte, 2) := dk_188_8 (dk_at dksX6_init_0 17 rfl rfl)
theorem dX6_init_19 : decode cX6_init 19 = .ok (.putfield 15, 3) := dk_181 0 15 (dk_at dksX6_init_0 19 rfl rfl)
theorem dX6_init_22 : decode cX6_init 22 = .ok (.aload_n 0, 1) := dk_42 (dk_at dksX6_init_0 22 rfl rfl)
theorem dX6_init_23 : decode cX6_init 23 = .ok (.sipush 128, 3) := dk_17 0 128 (dk_at dksX6_init_1 0 rfl rfl)
theorem dX6_init_26 : decode cX6_init 26 = .ok (.newarray .byte, 2) := dk_188_8 (dk_at dksX6_init_1 3 rfl rfl)
theorem dX6_init_28 : decode cX6_init 28 = .ok (.putfield 18, 3) := dk_181 0 18 (dk_at dksX6_init_1 5 rfl rfl)
theorem dX6_init_31 : decode cX6_init 31 = .ok (.aload_n 0, 1) := dk_42 (dk_at dksX6_init_1 8 rfl rfl)
theorem dX6_init_32 : decode cX6_init 32 = .ok (.iconst (-1), 1) := dk_2 (dk_at dksX6_init_1 9 rfl rfl)
theorem dX6_init_33 : decode cX6_init 33 = .ok (.putfield 21, 3) := dk_181 0 21 (dk_at dksX6_init_1 10 rfl rfl)
theorem dX6_init_36 : decode cX6_init 36 = .ok (.aload_n 0, 1) := dk_42 (dk_at dksX6_init_1 13 rfl rfl)
theorem dX6_init_37 : decode cX6_init 37 = .ok (.aload_n 1, 1) := dk_43 (dk_at dksX6_init_1 14 rfl rfl)
theorem dX6_init_38 : decode cX6_init 38 = .ok (.putfield 25, 3) := dk_181 0 25 (dk_at dksX6_init_1 15 rfl rfl)
theorem dX6_init_41 : decode cX6_init 41 = .ok (.aload_n 0, 1) := dk_42 (dk_at dksX6_init_1 18 rfl rfl)
theorem dX6_init_42 : decode cX6_init 42 = .ok (.iload_n 2, 1) := dk_28 (dk_at dksX6_init_1 19 rfl rfl)
theorem dX6_init_43 : decode cX6_init 43 = .ok (.putfield 29, 3) := dk_181 0 29 (dk_at dksX6_init_1 20 rfl rfl)
theorem dX6_init_46 : decode cX6_init 46 = .ok (.aload_n 0, 1) := dk_42 (dk_at dksX6_init_1 23 rfl rfl)
theorem dX6_init_47 : decode cX6_init 47 = .ok (.iload_n 2, 1) := dk_28 (dk_at dksX6_init_2 0 rfl rfl)
theorem dX6_init_48 : decode cX6_init 48 = .ok (.newarray .int, 2) := dk_188_10 (dk_at dksX6_init_2 1 rfl rfl)
theorem dX6_init_50 : decode cX6_init 50 = .ok (.putfield 32, 3) := dk_181 0 32 (dk_at dksX6_init_2 3 rfl rfl)
theorem dX6_init_53 : decode cX6_init 53 = .ok (.aload_n 0, 1) := dk_42 (dk_at dksX6_init_2 6 rfl rfl)
theorem dX6_init_54 : decode cX6_init 54 = .ok (.aload_n 1, 1) := dk_43 (dk_at dksX6_init_2 7 rfl rfl)
theorem dX6_init_55 : decode cX6_init 55 = .ok (.getfield 36, 3) := dk_180 0 36 (dk_at dksX6_init_2 8 rfl rfl)
theorem dX6_init_58 : decode cX6_init 58 = .ok (.newarray .int, 2) := dk_188_10 (dk_at dksX6_init_2 11 rfl rfl)
theorem dX6_init_60 : decode cX6_init 60 = .ok (.putfield 41, 3) := dk_181 0 41 (dk_at dksX6_init_2 13 rfl rfl)
theorem dX6_init_63 : decode cX6_init 63 = .ok (.aload_n 0, 1) := dk_42 (dk_at dksX6_init_2 16 rfl rfl)
theorem dX6_init_64 : decode cX6_init 64 = .ok (.aload_n 1, 1) := dk_43 (dk_at dksX6_init_2 17 rfl rfl)
theorem dX6_init_65 : decode cX6_init 65 = .ok (.getfield 36, 3) := dk_180 0 36 (dk_at dksX6_init_2 18 rfl rfl)
theorem dX6_init_68 : decode cX6_init 68 = .ok (.newarray .int, 2) := dk_188_10 (dk_at dksX6_init_2 21 rfl rfl)
theorem dX6_init_70 : decode cX6_init 70 = .ok (.putfield 44, 3) := dk_181 0 44 (dk_at dksX6_init_3 0 rfl rfl)
theorem dX6_init_73 : decode cX6_init 73 = .ok (.return_, 1) := dk_177 (dk_at dksX6_init_3 3 rfl rfl)
abbrev cX6_pages : ByteArray := prog_2_method_2_code
def yX6_pages : MethodName := ⟨RX6, "pages", "()I"⟩
def dkwX6_pages_0 : List UInt8 := [42, 180, 0, 25, 180, 0, 47, 5, 100, 172]
abbrev dktX6_pages_0 : List UInt8 := dkwX6_pages_0 ++ []
theorem dksX6_pages_0 : cX6_pages.data.toList.drop 0 = dktX6_pages_0 := by decide +kernel
theorem dX6_pages_0 : decode cX6_pages 0 = .ok (.aload_n 0, 1) := dk_42 (dk_at dksX6_pages_0 0 rfl rfl)
theorem dX6_pages_1 : decode cX6_pages 1 = .ok (.getfield 25, 3) := dk_180 0 25 (dk_at dksX6_pages_0 1 rfl rfl)
theorem dX6_pages_4 : decode cX6_pages 4 = .ok (.getfield 47, 3) := dk_180 0 47 (dk_at dksX6_pages_0 4 rfl rfl)
theorem dX6_pages_7 : decode cX6_pages 7 = .ok (.iconst 2, 1) := dk_5 (dk_at dksX6_pages_0 7 rfl rfl)
theorem dX6_pages_8 : decode cX6_pages 8 = .ok (.isub, 1) := dk_100 (dk_at dksX6_pages_0 8 rfl rfl)
theorem dX6_pages_9 : decode cX6_pages 9 = .ok (.ireturn, 1) := dk_172 (dk_at dksX6_pages_0 9 rfl rfl)
abbrev cX6_format : ByteArray := prog_2_method_8_code
def yX6_format : MethodName := ⟨RX6, "format", "()V"⟩
def dkwX6_format_3 : List UInt8 := [132, 1, 1, 167, 255, 237, 177]
abbrev dktX6_format_3 : List UInt8 := dkwX6_format_3 ++ []
def dkwX6_format_2 : List UInt8 := [132, 1, 1, 167, 255, 227, 3, 60, 27, 42, 180, 0, 25, 180, 0, 36, 162, 0, 14, 42, 27, 182, 0, 117]
abbrev dktX6_format_2 : List UInt8 := dkwX6_format_2 ++ dktX6_format_3
def dkwX6_format_1 : List UInt8 := [180, 0, 25, 180, 0, 36, 162, 0, 24, 42, 180, 0, 44, 27, 3, 79, 42, 180, 0, 41, 27, 16, 254, 79]
abbrev dktX6_format_1 : List UInt8 := dkwX6_format_1 ++ dktX6_format_2
def dkwX6_format_0 : List UInt8 := [42, 9, 181, 0, 70, 42, 2, 181, 0, 21, 42, 180, 0, 32, 2, 184, 0, 114, 3, 60, 27, 42]
abbrev dktX6_format_0 : List UInt8 := dkwX6_format_0 ++ dktX6_format_1
theorem dksX6_format_0 : cX6_format.data.toList.drop 0 = dktX6_format_0 := by decide +kernel
theorem dksX6_format_1 : cX6_format.data.toList.drop 22 = dktX6_format_1 := dk_seg dksX6_format_0 22 rfl rfl
theorem dksX6_format_2 : cX6_format.data.toList.drop 46 = dktX6_format_2 := dk_seg dksX6_format_1 24 rfl rfl
theorem dksX6_format_3 : cX6_format.data.toList.drop 70 = dktX6_format_3 := dk_seg dksX6_format_2 24 rfl rfl
theorem dX6_format_0 : decode cX6_format 0 = .ok (.aload_n 0, 1) := dk_42 (dk_at dksX6_format_0 0 rfl rfl)
theorem dX6_format_1 : decode cX6_format 1 = .ok (.lconst 0, 1) := dk_9 (dk_at dksX6_format_0 1 rfl rfl)
theorem dX6_format_2 : decode cX6_format 2 = .ok (.putfield 70, 3) := dk_181 0 70 (dk_at dksX6_format_0 2 rfl rfl)
theorem dX6_format_5 : decode cX6_format 5 = .ok (.aload_n 0, 1) := dk_42 (dk_at dksX6_format_0 5 rfl rfl)
theorem dX6_format_6 : decode cX6_format 6 = .ok (.iconst (-1), 1) := dk_2 (dk_at dksX6_format_0 6 rfl rfl)
theorem dX6_format_7 : decode cX6_format 7 = .ok (.putfield 21, 3) := dk_181 0 21 (dk_at dksX6_format_0 7 rfl rfl)
theorem dX6_format_10 : decode cX6_format 10 = .ok (.aload_n 0, 1) := dk_42 (dk_at dksX6_format_0 10 rfl rfl)
theorem dX6_format_11 : decode cX6_format 11 = .ok (.getfield 32, 3) := dk_180 0 32 (dk_at dksX6_format_0 11 rfl rfl)
theorem dX6_format_14 : decode cX6_format 14 = .ok (.iconst (-1), 1) := dk_2 (dk_at dksX6_format_0 14 rfl rfl)
theorem dX6_format_15 : decode cX6_format 15 = .ok (.invokestatic 114, 3) := dk_184 0 114 (dk_at dksX6_format_0 15 rfl rfl)
theorem dX6_format_18 : decode cX6_format 18 = .ok (.iconst 0, 1) := dk_3 (dk_at dksX6_format_0 18 rfl rfl)
theorem dX6_format_19 : decode cX6_format 19 = .ok (.istore_n 1, 1) := dk_60 (dk_at dksX6_format_0 19 rfl rfl)
theorem dX6_format_20 : decode cX6_format 20 = .ok (.iload_n 1, 1) := dk_27 (dk_at dksX6_format_0 20 rfl rfl)
theorem dX6_format_21 : decode cX6_format 21 = .ok (.aload_n 0, 1) := dk_42 (dk_at dksX6_format_0 21 rfl rfl)
theorem dX6_format_22 : decode cX6_format 22 = .ok (.getfield 25, 3) := dk_180 0 25 (dk_at dksX6_format_1 0 rfl rfl)
theorem dX6_format_25 : decode cX6_format 25 = .ok (.getfield 36, 3) := dk_180 0 36 (dk_at dksX6_format_1 3 rfl rfl)
theorem dX6_format_28 : decode cX6_format 28 = .ok (.if_icmp .ge 24, 3) := dk_162 0 24 (dk_at dksX6_format_1 6 rfl rfl)
theorem dX6_format_31 : decode cX6_format 31 = .ok (.aload_n 0, 1) := dk_42 (dk_at dksX6_format_1 9 rfl rfl)
theorem dX6_format_32 : decode cX6_format 32 = .ok (.getfield 44, 3) := dk_180 0 44 (dk_at dksX6_format_1 10 rfl rfl)
theorem dX6_format_35 : decode cX6_format 35 = .ok (.iload_n 1, 1) := dk_27 (dk_at dksX6_format_1 13 rfl rfl)
theorem dX6_format_36 : decode cX6_format 36 = .ok (.iconst 0, 1) := dk_3 (dk_at dksX6_format_1 14 rfl rfl)
theorem dX6_format_37 : decode cX6_format 37 = .ok (.iastore, 1) := dk_79 (dk_at dksX6_format_1 15 rfl rfl)
theorem dX6_format_38 : decode cX6_format 38 = .ok (.aload_n 0, 1) := dk_42 (dk_at dksX6_format_1 16 rfl rfl)
theorem dX6_format_39 : decode cX6_format 39 = .ok (.getfield 41, 3) := dk_180 0 41 (dk_at dksX6_format_1 17 rfl rfl)
theorem dX6_format_42 : decode cX6_format 42 = .ok (.iload_n 1, 1) := dk_27 (dk_at dksX6_format_1 20 rfl rfl)
theorem dX6_format_43 : decode cX6_format 43 = .ok (.bipush (-2), 2) := dk_16 254 (dk_at dksX6_format_1 21 rfl rfl)
theorem dX6_format_45 : decode cX6_format 45 = .ok (.iastore, 1) := dk_79 (dk_at dksX6_format_1 23 rfl rfl)
theorem dX6_format_46 : decode cX6_format 46 = .ok (.iinc 1 1, 3) := dk_132 1 1 (dk_at dksX6_format_2 0 rfl rfl)
theorem dX6_format_49 : decode cX6_format 49 = .ok (.goto (-29), 3) := dk_167 255 227 (dk_at dksX6_format_2 3 rfl rfl)
theorem dX6_format_52 : decode cX6_format 52 = .ok (.iconst 0, 1) := dk_3 (dk_at dksX6_format_2 6 rfl rfl)
theorem dX6_format_53 : decode cX6_format 53 = .ok (.istore_n 1, 1) := dk_60 (dk_at dksX6_format_2 7 rfl rfl)
theorem dX6_format_54 : decode cX6_format 54 = .ok (.iload_n 1, 1) := dk_27 (dk_at dksX6_format_2 8 rfl rfl)
theorem dX6_format_55 : decode cX6_format 55 = .ok (.aload_n 0, 1) := dk_42 (dk_at dksX6_format_2 9 rfl rfl)
theorem dX6_format_56 : decode cX6_format 56 = .ok (.getfield 25, 3) := dk_180 0 25 (dk_at dksX6_format_2 10 rfl rfl)
theorem dX6_format_59 : decode cX6_format 59 = .ok (.getfield 36, 3) := dk_180 0 36 (dk_at dksX6_format_2 13 rfl rfl)
theorem dX6_format_62 : decode cX6_format 62 = .ok (.if_icmp .ge 14, 3) := dk_162 0 14 (dk_at dksX6_format_2 16 rfl rfl)
theorem dX6_format_65 : decode cX6_format 65 = .ok (.aload_n 0, 1) := dk_42 (dk_at dksX6_format_2 19 rfl rfl)
theorem dX6_format_66 : decode cX6_format 66 = .ok (.iload_n 1, 1) := dk_27 (dk_at dksX6_format_2 20 rfl rfl)
theorem dX6_format_67 : decode cX6_format 67 = .ok (.invokevirtual 117, 3) := dk_182 0 117 (dk_at dksX6_format_2 21 rfl rfl)
theorem dX6_format_70 : decode cX6_format 70 = .ok (.iinc 1 1, 3) := dk_132 1 1 (dk_at dksX6_format_3 0 rfl rfl)
theorem dX6_format_73 : decode cX6_format 73 = .ok (.goto (-19), 3) := dk_167 255 237 (dk_at dksX6_format_3 3 rfl rfl)
theorem dX6_format_76 : decode cX6_format 76 = .ok (.return_, 1) := dk_177 (dk_at dksX6_format_3 6 rfl rfl)
abbrev cX6_erase : ByteArray := prog_2_method_10_code
def yX6_erase : MethodName := ⟨RX6, "erase", "(I)V"⟩
def dkwX6_erase_1 : List UInt8 := [182, 0, 127, 153, 0, 13, 42, 180, 0, 41, 27, 2, 79, 167, 0, 8, 42, 27, 182, 0, 130, 177]
abbrev dktX6_erase_1 : List UInt8 := dkwX6_erase_1 ++ []
def dkwX6_erase_0 : List UInt8 := [42, 180, 0, 44, 27, 92, 46, 4, 96, 79, 42, 180, 0, 25, 27, 182, 0, 124, 153, 0, 21, 42, 27]
abbrev dktX6_erase_0 : List UInt8 := dkwX6_erase_0 ++ dktX6_erase_1
theorem dksX6_erase_0 : cX6_erase.data.toList.drop 0 = dktX6_erase_0 := by decide +kernel
theorem dksX6_erase_1 : cX6_erase.data.toList.drop 23 = dktX6_erase_1 := dk_seg dksX6_erase_0 23 rfl rfl
theorem dX6_erase_0 : decode cX6_erase 0 = .ok (.aload_n 0, 1) := dk_42 (dk_at dksX6_erase_0 0 rfl rfl)
theorem dX6_erase_1 : decode cX6_erase 1 = .ok (.getfield 44, 3) := dk_180 0 44 (dk_at dksX6_erase_0 1 rfl rfl)
theorem dX6_erase_4 : decode cX6_erase 4 = .ok (.iload_n 1, 1) := dk_27 (dk_at dksX6_erase_0 4 rfl rfl)
theorem dX6_erase_5 : decode cX6_erase 5 = .ok (.dup2, 1) := dk_92 (dk_at dksX6_erase_0 5 rfl rfl)
theorem dX6_erase_6 : decode cX6_erase 6 = .ok (.iaload, 1) := dk_46 (dk_at dksX6_erase_0 6 rfl rfl)
theorem dX6_erase_7 : decode cX6_erase 7 = .ok (.iconst 1, 1) := dk_4 (dk_at dksX6_erase_0 7 rfl rfl)
theorem dX6_erase_8 : decode cX6_erase 8 = .ok (.iadd, 1) := dk_96 (dk_at dksX6_erase_0 8 rfl rfl)
theorem dX6_erase_9 : decode cX6_erase 9 = .ok (.iastore, 1) := dk_79 (dk_at dksX6_erase_0 9 rfl rfl)
theorem dX6_erase_10 : decode cX6_erase 10 = .ok (.aload_n 0, 1) := dk_42 (dk_at dksX6_erase_0 10 rfl rfl)
theorem dX6_erase_11 : decode cX6_erase 11 = .ok (.getfield 25, 3) := dk_180 0 25 (dk_at dksX6_erase_0 11 rfl rfl)
theorem dX6_erase_14 : decode cX6_erase 14 = .ok (.iload_n 1, 1) := dk_27 (dk_at dksX6_erase_0 14 rfl rfl)
theorem dX6_erase_15 : decode cX6_erase 15 = .ok (.invokevirtual 124, 3) := dk_182 0 124 (dk_at dksX6_erase_0 15 rfl rfl)
theorem dX6_erase_18 : decode cX6_erase 18 = .ok (.ifCond .eq 21, 3) := dk_153 0 21 (dk_at dksX6_erase_0 18 rfl rfl)
theorem dX6_erase_21 : decode cX6_erase 21 = .ok (.aload_n 0, 1) := dk_42 (dk_at dksX6_erase_0 21 rfl rfl)
theorem dX6_erase_22 : decode cX6_erase 22 = .ok (.iload_n 1, 1) := dk_27 (dk_at dksX6_erase_0 22 rfl rfl)
theorem dX6_erase_23 : decode cX6_erase 23 = .ok (.invokevirtual 127, 3) := dk_182 0 127 (dk_at dksX6_erase_1 0 rfl rfl)
theorem dX6_erase_26 : decode cX6_erase 26 = .ok (.ifCond .eq 13, 3) := dk_153 0 13 (dk_at dksX6_erase_1 3 rfl rfl)
theorem dX6_erase_29 : decode cX6_erase 29 = .ok (.aload_n 0, 1) := dk_42 (dk_at dksX6_erase_1 6 rfl rfl)
theorem dX6_erase_30 : decode cX6_erase 30 = .ok (.getfield 41, 3) := dk_180 0 41 (dk_at dksX6_erase_1 7 rfl rfl)
theorem dX6_erase_33 : decode cX6_erase 33 = .ok (.iload_n 1, 1) := dk_27 (dk_at dksX6_erase_1 10 rfl rfl)
theorem dX6_erase_34 : decode cX6_erase 34 = .ok (.iconst (-1), 1) := dk_2 (dk_at dksX6_erase_1 11 rfl rfl)
theorem dX6_erase_35 : decode cX6_erase 35 = .ok (.iastore, 1) := dk_79 (dk_at dksX6_erase_1 12 rfl rfl)
theorem dX6_erase_36 : decode cX6_erase 36 = .ok (.goto 8, 3) := dk_167 0 8 (dk_at dksX6_erase_1 13 rfl rfl)
theorem dX6_erase_39 : decode cX6_erase 39 = .ok (.aload_n 0, 1) := dk_42 (dk_at dksX6_erase_1 16 rfl rfl)
theorem dX6_erase_40 : decode cX6_erase 40 = .ok (.iload_n 1, 1) := dk_27 (dk_at dksX6_erase_1 17 rfl rfl)
theorem dX6_erase_41 : decode cX6_erase 41 = .ok (.invokevirtual 130, 3) := dk_182 0 130 (dk_at dksX6_erase_1 18 rfl rfl)
theorem dX6_erase_44 : decode cX6_erase 44 = .ok (.return_, 1) := dk_177 (dk_at dksX6_erase_1 21 rfl rfl)
abbrev cX6_writeErased : ByteArray := prog_2_method_3_code
def yX6_writeErased : MethodName := ⟨RX6, "writeErased", "(I)Z"⟩
def dkwX6_writeErased_2 : List UInt8 := [184, 0, 61, 184, 0, 57, 42, 180, 0, 25, 27, 3, 42, 180, 0, 9, 3, 182, 0, 65, 172]
abbrev dktX6_writeErased_2 : List UInt8 := dkwX6_writeErased_2 ++ []
def dkwX6_writeErased_1 : List UInt8 := [180, 0, 44, 27, 46, 184, 0, 57, 42, 180, 0, 9, 16, 8, 2, 42, 180, 0, 9, 3, 16, 8]
abbrev dktX6_writeErased_1 : List UInt8 := dkwX6_writeErased_1 ++ dktX6_writeErased_2
def dkwX6_writeErased_0 : List UInt8 := [42, 180, 0, 9, 3, 184, 0, 50, 42, 180, 0, 9, 3, 18, 56, 184, 0, 57, 42, 180, 0, 9, 7, 42]
abbrev dktX6_writeErased_0 : List UInt8 := dkwX6_writeErased_0 ++ dktX6_writeErased_1
theorem dksX6_writeErased_0 : cX6_writeErased.data.toList.drop 0 = dktX6_writeErased_0 := by decide +kernel
theorem dksX6_writeErased_1 : cX6_writeErased.data.toList.drop 24 = dktX6_writeErased_1 := dk_seg dksX6_writeErased_0 24 rfl rfl
theorem dksX6_writeErased_2 : cX6_writeErased.data.toList.drop 46 = dktX6_writeErased_2 := dk_seg dksX6_writeErased_1 22 rfl rfl
theorem dX6_writeErased_0 : decode cX6_writeErased 0 = .ok (.aload_n 0, 1) := dk_42 (dk_at dksX6_writeErased_0 0 rfl rfl)
theorem dX6_writeErased_1 : decode cX6_writeErased 1 = .ok (.getfield 9, 3) := dk_180 0 9 (dk_at dksX6_writeErased_0 1 rfl rfl)
theorem dX6_writeErased_4 : decode cX6_writeErased 4 = .ok (.iconst 0, 1) := dk_3 (dk_at dksX6_writeErased_0 4 rfl rfl)
theorem dX6_writeErased_5 : decode cX6_writeErased 5 = .ok (.invokestatic 50, 3) := dk_184 0 50 (dk_at dksX6_writeErased_0 5 rfl rfl)
theorem dX6_writeErased_8 : decode cX6_writeErased 8 = .ok (.aload_n 0, 1) := dk_42 (dk_at dksX6_writeErased_0 8 rfl rfl)
theorem dX6_writeErased_9 : decode cX6_writeErased 9 = .ok (.getfield 9, 3) := dk_180 0 9 (dk_at dksX6_writeErased_0 9 rfl rfl)
theorem dX6_writeErased_12 : decode cX6_writeErased 12 = .ok (.iconst 0, 1) := dk_3 (dk_at dksX6_writeErased_0 12 rfl rfl)
theorem dX6_writeErased_13 : decode cX6_writeErased 13 = .ok (.ldc 56, 2) := dk_18 56 (dk_at dksX6_writeErased_0 13 rfl rfl)
theorem dX6_writeErased_15 : decode cX6_writeErased 15 = .ok (.invokestatic 57, 3) := dk_184 0 57 (dk_at dksX6_writeErased_0 15 rfl rfl)
theorem dX6_writeErased_18 : decode cX6_writeErased 18 = .ok (.aload_n 0, 1) := dk_42 (dk_at dksX6_writeErased_0 18 rfl rfl)
theorem dX6_writeErased_19 : decode cX6_writeErased 19 = .ok (.getfield 9, 3) := dk_180 0 9 (dk_at dksX6_writeErased_0 19 rfl rfl)
theorem dX6_writeErased_22 : decode cX6_writeErased 22 = .ok (.iconst 4, 1) := dk_7 (dk_at dksX6_writeErased_0 22 rfl rfl)
theorem dX6_writeErased_23 : decode cX6_writeErased 23 = .ok (.aload_n 0, 1) := dk_42 (dk_at dksX6_writeErased_0 23 rfl rfl)
theorem dX6_writeErased_24 : decode cX6_writeErased 24 = .ok (.getfield 44, 3) := dk_180 0 44 (dk_at dksX6_writeErased_1 0 rfl rfl)
theorem dX6_writeErased_27 : decode cX6_writeErased 27 = .ok (.iload_n 1, 1) := dk_27 (dk_at dksX6_writeErased_1 3 rfl rfl)
theorem dX6_writeErased_28 : decode cX6_writeErased 28 = .ok (.iaload, 1) := dk_46 (dk_at dksX6_writeErased_1 4 rfl rfl)
theorem dX6_writeErased_29 : decode cX6_writeErased 29 = .ok (.invokestatic 57, 3) := dk_184 0 57 (dk_at dksX6_writeErased_1 5 rfl rfl)
theorem dX6_writeErased_32 : decode cX6_writeErased 32 = .ok (.aload_n 0, 1) := dk_42 (dk_at dksX6_writeErased_1 8 rfl rfl)
theorem dX6_writeErased_33 : decode cX6_writeErased 33 = .ok (.getfield 9, 3) := dk_180 0 9 (dk_at dksX6_writeErased_1 9 rfl rfl)
theorem dX6_writeErased_36 : decode cX6_writeErased 36 = .ok (.bipush 8, 2) := dk_16 8 (dk_at dksX6_writeErased_1 12 rfl rfl)
theorem dX6_writeErased_38 : decode cX6_writeErased 38 = .ok (.iconst (-1), 1) := dk_2 (dk_at dksX6_writeErased_1 14 rfl rfl)
theorem dX6_writeErased_39 : decode cX6_writeErased 39 = .ok (.aload_n 0, 1) := dk_42 (dk_at dksX6_writeErased_1 15 rfl rfl)
theorem dX6_writeErased_40 : decode cX6_writeErased 40 = .ok (.getfield 9, 3) := dk_180 0 9 (dk_at dksX6_writeErased_1 16 rfl rfl)
theorem dX6_writeErased_43 : decode cX6_writeErased 43 = .ok (.iconst 0, 1) := dk_3 (dk_at dksX6_writeErased_1 19 rfl rfl)
theorem dX6_writeErased_44 : decode cX6_writeErased 44 = .ok (.bipush 8, 2) := dk_16 8 (dk_at dksX6_writeErased_1 20 rfl rfl)
theorem dX6_writeErased_46 : decode cX6_writeErased 46 = .ok (.invokestatic 61, 3) := dk_184 0 61 (dk_at dksX6_writeErased_2 0 rfl rfl)
theorem dX6_writeErased_49 : decode cX6_writeErased 49 = .ok (.invokestatic 57, 3) := dk_184 0 57 (dk_at dksX6_writeErased_2 3 rfl rfl)
theorem dX6_writeErased_52 : decode cX6_writeErased 52 = .ok (.aload_n 0, 1) := dk_42 (dk_at dksX6_writeErased_2 6 rfl rfl)
theorem dX6_writeErased_53 : decode cX6_writeErased 53 = .ok (.getfield 25, 3) := dk_180 0 25 (dk_at dksX6_writeErased_2 7 rfl rfl)
theorem dX6_writeErased_56 : decode cX6_writeErased 56 = .ok (.iload_n 1, 1) := dk_27 (dk_at dksX6_writeErased_2 10 rfl rfl)
theorem dX6_writeErased_57 : decode cX6_writeErased 57 = .ok (.iconst 0, 1) := dk_3 (dk_at dksX6_writeErased_2 11 rfl rfl)
theorem dX6_writeErased_58 : decode cX6_writeErased 58 = .ok (.aload_n 0, 1) := dk_42 (dk_at dksX6_writeErased_2 12 rfl rfl)
theorem dX6_writeErased_59 : decode cX6_writeErased 59 = .ok (.getfield 9, 3) := dk_180 0 9 (dk_at dksX6_writeErased_2 13 rfl rfl)
theorem dX6_writeErased_62 : decode cX6_writeErased 62 = .ok (.iconst 0, 1) := dk_3 (dk_at dksX6_writeErased_2 16 rfl rfl)
theorem dX6_writeErased_63 : decode cX6_writeErased 63 = .ok (.invokevirtual 65, 3) := dk_182 0 65 (dk_at dksX6_writeErased_2 17 rfl rfl)
theorem dX6_writeErased_66 : decode cX6_writeErased 66 = .ok (.ireturn, 1) := dk_172 (dk_at dksX6_writeErased_2 20 rfl rfl)
abbrev cX6_lose : ByteArray := prog_2_method_9_code
def yX6_lose : MethodName := ⟨RX6, "lose", "(I)V"⟩
def dkwX6_lose_0 : List UInt8 := [42, 180, 0, 41, 27, 16, 253, 79, 42, 180, 0, 25, 27, 182, 0, 121, 177]
abbrev dktX6_lose_0 : List UInt8 := dkwX6_lose_0 ++ []
theorem dksX6_lose_0 : cX6_lose.data.toList.drop 0 = dktX6_lose_0 := by decide +kernel
theorem dX6_lose_0 : decode cX6_lose 0 = .ok (.aload_n 0, 1) := dk_42 (dk_at dksX6_lose_0 0 rfl rfl)
theorem dX6_lose_1 : decode cX6_lose 1 = .ok (.getfield 41, 3) := dk_180 0 41 (dk_at dksX6_lose_0 1 rfl rfl)
theorem dX6_lose_4 : decode cX6_lose 4 = .ok (.iload_n 1, 1) := dk_27 (dk_at dksX6_lose_0 4 rfl rfl)
theorem dX6_lose_5 : decode cX6_lose 5 = .ok (.bipush (-3), 2) := dk_16 253 (dk_at dksX6_lose_0 5 rfl rfl)
theorem dX6_lose_7 : decode cX6_lose 7 = .ok (.iastore, 1) := dk_79 (dk_at dksX6_lose_0 7 rfl rfl)
theorem dX6_lose_8 : decode cX6_lose 8 = .ok (.aload_n 0, 1) := dk_42 (dk_at dksX6_lose_0 8 rfl rfl)
theorem dX6_lose_9 : decode cX6_lose 9 = .ok (.getfield 25, 3) := dk_180 0 25 (dk_at dksX6_lose_0 9 rfl rfl)
theorem dX6_lose_12 : decode cX6_lose 12 = .ok (.iload_n 1, 1) := dk_27 (dk_at dksX6_lose_0 12 rfl rfl)
theorem dX6_lose_13 : decode cX6_lose 13 = .ok (.invokevirtual 121, 3) := dk_182 0 121 (dk_at dksX6_lose_0 13 rfl rfl)
theorem dX6_lose_16 : decode cX6_lose 16 = .ok (.return_, 1) := dk_177 (dk_at dksX6_lose_0 16 rfl rfl)
abbrev cX6_drop : ByteArray := prog_2_method_23_code
def yX6_drop : MethodName := ⟨RX6, "drop", "(I)V"⟩
def dkwX6_drop_1 : List UInt8 := [27, 46, 16, 254, 79, 42, 180, 0, 32, 27, 2, 79, 177]
abbrev dktX6_drop_1 : List UInt8 := dkwX6_drop_1 ++ []
def dkwX6_drop_0 : List UInt8 := [42, 27, 182, 0, 166, 42, 180, 0, 32, 27, 46, 2, 160, 0, 4, 177, 42, 180, 0, 41, 42, 180, 0, 32]
abbrev dktX6_drop_0 : List UInt8 := dkwX6_drop_0 ++ dktX6_drop_1
theorem dksX6_drop_0 : cX6_drop.data.toList.drop 0 = dktX6_drop_0 := by decide +kernel
theorem dksX6_drop_1 : cX6_drop.data.toList.drop 24 = dktX6_drop_1 := dk_seg dksX6_drop_0 24 rfl rfl
theorem dX6_drop_0 : decode cX6_drop 0 = .ok (.aload_n 0, 1) := dk_42 (dk_at dksX6_drop_0 0 rfl rfl)
theorem dX6_drop_1 : decode cX6_drop 1 = .ok (.iload_n 1, 1) := dk_27 (dk_at dksX6_drop_0 1 rfl rfl)
theorem dX6_drop_2 : decode cX6_drop 2 = .ok (.invokevirtual 166, 3) := dk_182 0 166 (dk_at dksX6_drop_0 2 rfl rfl)
theorem dX6_drop_5 : decode cX6_drop 5 = .ok (.aload_n 0, 1) := dk_42 (dk_at dksX6_drop_0 5 rfl rfl)
theorem dX6_drop_6 : decode cX6_drop 6 = .ok (.getfield 32, 3) := dk_180 0 32 (dk_at dksX6_drop_0 6 rfl rfl)
theorem dX6_drop_9 : decode cX6_drop 9 = .ok (.iload_n 1, 1) := dk_27 (dk_at dksX6_drop_0 9 rfl rfl)
theorem dX6_drop_10 : decode cX6_drop 10 = .ok (.iaload, 1) := dk_46 (dk_at dksX6_drop_0 10 rfl rfl)
theorem dX6_drop_11 : decode cX6_drop 11 = .ok (.iconst (-1), 1) := dk_2 (dk_at dksX6_drop_0 11 rfl rfl)
theorem dX6_drop_12 : decode cX6_drop 12 = .ok (.if_icmp .ne 4, 3) := dk_160 0 4 (dk_at dksX6_drop_0 12 rfl rfl)
theorem dX6_drop_15 : decode cX6_drop 15 = .ok (.return_, 1) := dk_177 (dk_at dksX6_drop_0 15 rfl rfl)
theorem dX6_drop_16 : decode cX6_drop 16 = .ok (.aload_n 0, 1) := dk_42 (dk_at dksX6_drop_0 16 rfl rfl)
theorem dX6_drop_17 : decode cX6_drop 17 = .ok (.getfield 41, 3) := dk_180 0 41 (dk_at dksX6_drop_0 17 rfl rfl)
theorem dX6_drop_20 : decode cX6_drop 20 = .ok (.aload_n 0, 1) := dk_42 (dk_at dksX6_drop_0 20 rfl rfl)
theorem dX6_drop_21 : decode cX6_drop 21 = .ok (.getfield 32, 3) := dk_180 0 32 (dk_at dksX6_drop_0 21 rfl rfl)
theorem dX6_drop_24 : decode cX6_drop 24 = .ok (.iload_n 1, 1) := dk_27 (dk_at dksX6_drop_1 0 rfl rfl)
theorem dX6_drop_25 : decode cX6_drop 25 = .ok (.iaload, 1) := dk_46 (dk_at dksX6_drop_1 1 rfl rfl)
theorem dX6_drop_26 : decode cX6_drop 26 = .ok (.bipush (-2), 2) := dk_16 254 (dk_at dksX6_drop_1 2 rfl rfl)
theorem dX6_drop_28 : decode cX6_drop 28 = .ok (.iastore, 1) := dk_79 (dk_at dksX6_drop_1 4 rfl rfl)
theorem dX6_drop_29 : decode cX6_drop 29 = .ok (.aload_n 0, 1) := dk_42 (dk_at dksX6_drop_1 5 rfl rfl)
theorem dX6_drop_30 : decode cX6_drop 30 = .ok (.getfield 32, 3) := dk_180 0 32 (dk_at dksX6_drop_1 6 rfl rfl)
theorem dX6_drop_33 : decode cX6_drop 33 = .ok (.iload_n 1, 1) := dk_27 (dk_at dksX6_drop_1 9 rfl rfl)
theorem dX6_drop_34 : decode cX6_drop 34 = .ok (.iconst (-1), 1) := dk_2 (dk_at dksX6_drop_1 10 rfl rfl)
theorem dX6_drop_35 : decode cX6_drop 35 = .ok (.iastore, 1) := dk_79 (dk_at dksX6_drop_1 11 rfl rfl)
theorem dX6_drop_36 : decode cX6_drop 36 = .ok (.return_, 1) := dk_177 (dk_at dksX6_drop_1 12 rfl rfl)
abbrev cX6_stopMove : ByteArray := prog_2_method_24_code
def yX6_stopMove : MethodName := ⟨RX6, "stopMove", "(I)V"⟩
def dkwX6_stopMove_2 : List UInt8 := [181, 0, 21, 177]
abbrev dktX6_stopMove_2 : List UInt8 := dkwX6_stopMove_2 ++ []
def dkwX6_stopMove_1 : List UInt8 := [180, 0, 187, 160, 0, 8, 42, 182, 0, 190, 177, 42, 180, 0, 41, 42, 180, 0, 193, 16, 254, 79, 42, 2]
abbrev dktX6_stopMove_1 : List UInt8 := dkwX6_stopMove_1 ++ dktX6_stopMove_2
def dkwX6_stopMove_0 : List UInt8 := [42, 180, 0, 21, 27, 160, 0, 11, 42, 180, 0, 21, 2, 160, 0, 4, 177, 42, 180, 0, 184, 42]
abbrev dktX6_stopMove_0 : List UInt8 := dkwX6_stopMove_0 ++ dktX6_stopMove_1
theorem dksX6_stopMove_0 : cX6_stopMove.data.toList.drop 0 = dktX6_stopMove_0 := by decide +kernel
theorem dksX6_stopMove_1 : cX6_stopMove.data.toList.drop 22 = dktX6_stopMove_1 := dk_seg dksX6_stopMove_0 22 rfl rfl
theorem dksX6_stopMove_2 : cX6_stopMove.data.toList.drop 46 = dktX6_stopMove_2 := dk_seg dksX6_stopMove_1 24 rfl rfl
theorem dX6_stopMove_0 : decode cX6_stopMove 0 = .ok (.aload_n 0, 1) := dk_42 (dk_at dksX6_stopMove_0 0 rfl rfl)
theorem dX6_stopMove_1 : decode cX6_stopMove 1 = .ok (.getfield 21, 3) := dk_180 0 21 (dk_at dksX6_stopMove_0 1 rfl rfl)
theorem dX6_stopMove_4 : decode cX6_stopMove 4 = .ok (.iload_n 1, 1) := dk_27 (dk_at dksX6_stopMove_0 4 rfl rfl)
theorem dX6_stopMove_5 : decode cX6_stopMove 5 = .ok (.if_icmp .ne 11, 3) := dk_160 0 11 (dk_at dksX6_stopMove_0 5 rfl rfl)
theorem dX6_stopMove_8 : decode cX6_stopMove 8 = .ok (.aload_n 0, 1) := dk_42 (dk_at dksX6_stopMove_0 8 rfl rfl)
theorem dX6_stopMove_9 : decode cX6_stopMove 9 = .ok (.getfield 21, 3) := dk_180 0 21 (dk_at dksX6_stopMove_0 9 rfl rfl)
theorem dX6_stopMove_12 : decode cX6_stopMove 12 = .ok (.iconst (-1), 1) := dk_2 (dk_at dksX6_stopMove_0 12 rfl rfl)
theorem dX6_stopMove_13 : decode cX6_stopMove 13 = .ok (.if_icmp .ne 4, 3) := dk_160 0 4 (dk_at dksX6_stopMove_0 13 rfl rfl)
theorem dX6_stopMove_16 : decode cX6_stopMove 16 = .ok (.return_, 1) := dk_177 (dk_at dksX6_stopMove_0 16 rfl rfl)
theorem dX6_stopMove_17 : decode cX6_stopMove 17 = .ok (.aload_n 0, 1) := dk_42 (dk_at dksX6_stopMove_0 17 rfl rfl)
theorem dX6_stopMove_18 : decode cX6_stopMove 18 = .ok (.getfield 184, 3) := dk_180 0 184 (dk_at dksX6_stopMove_0 18 rfl rfl)
theorem dX6_stopMove_21 : decode cX6_stopMove 21 = .ok (.aload_n 0, 1) := dk_42 (dk_at dksX6_stopMove_0 21 rfl rfl)
theorem dX6_stopMove_22 : decode cX6_stopMove 22 = .ok (.getfield 187, 3) := dk_180 0 187 (dk_at dksX6_stopMove_1 0 rfl rfl)
theorem dX6_stopMove_25 : decode cX6_stopMove 25 = .ok (.if_icmp .ne 8, 3) := dk_160 0 8 (dk_at dksX6_stopMove_1 3 rfl rfl)
theorem dX6_stopMove_28 : decode cX6_stopMove 28 = .ok (.aload_n 0, 1) := dk_42 (dk_at dksX6_stopMove_1 6 rfl rfl)
theorem dX6_stopMove_29 : decode cX6_stopMove 29 = .ok (.invokevirtual 190, 3) := dk_182 0 190 (dk_at dksX6_stopMove_1 7 rfl rfl)
theorem dX6_stopMove_32 : decode cX6_stopMove 32 = .ok (.return_, 1) := dk_177 (dk_at dksX6_stopMove_1 10 rfl rfl)
theorem dX6_stopMove_33 : decode cX6_stopMove 33 = .ok (.aload_n 0, 1) := dk_42 (dk_at dksX6_stopMove_1 11 rfl rfl)
theorem dX6_stopMove_34 : decode cX6_stopMove 34 = .ok (.getfield 41, 3) := dk_180 0 41 (dk_at dksX6_stopMove_1 12 rfl rfl)
theorem dX6_stopMove_37 : decode cX6_stopMove 37 = .ok (.aload_n 0, 1) := dk_42 (dk_at dksX6_stopMove_1 15 rfl rfl)
theorem dX6_stopMove_38 : decode cX6_stopMove 38 = .ok (.getfield 193, 3) := dk_180 0 193 (dk_at dksX6_stopMove_1 16 rfl rfl)
theorem dX6_stopMove_41 : decode cX6_stopMove 41 = .ok (.bipush (-2), 2) := dk_16 254 (dk_at dksX6_stopMove_1 19 rfl rfl)
theorem dX6_stopMove_43 : decode cX6_stopMove 43 = .ok (.iastore, 1) := dk_79 (dk_at dksX6_stopMove_1 21 rfl rfl)
theorem dX6_stopMove_44 : decode cX6_stopMove 44 = .ok (.aload_n 0, 1) := dk_42 (dk_at dksX6_stopMove_1 22 rfl rfl)
theorem dX6_stopMove_45 : decode cX6_stopMove 45 = .ok (.iconst (-1), 1) := dk_2 (dk_at dksX6_stopMove_1 23 rfl rfl)
theorem dX6_stopMove_46 : decode cX6_stopMove 46 = .ok (.putfield 21, 3) := dk_181 0 21 (dk_at dksX6_stopMove_2 0 rfl rfl)
theorem dX6_stopMove_49 : decode cX6_stopMove 49 = .ok (.return_, 1) := dk_177 (dk_at dksX6_stopMove_2 3 rfl rfl)
abbrev cX6_endMove : ByteArray := prog_2_method_25_code
def yX6_endMove : MethodName := ⟨RX6, "endMove", "()V"⟩
def dkwX6_endMove_1 : List UInt8 := [42, 180, 0, 21, 79, 42, 180, 0, 32, 42, 180, 0, 21, 42, 180, 0, 193, 79, 42, 2, 181, 0, 21, 177]
abbrev dktX6_endMove_1 : List UInt8 := dkwX6_endMove_1 ++ []
def dkwX6_endMove_0 : List UInt8 := [42, 180, 0, 41, 42, 180, 0, 32, 42, 180, 0, 21, 46, 16, 254, 79, 42, 180, 0, 41, 42, 180, 0, 193]
abbrev dktX6_endMove_0 : List UInt8 := dkwX6_endMove_0 ++ dktX6_endMove_1
theorem dksX6_endMove_0 : cX6_endMove.data.toList.drop 0 = dktX6_endMove_0 := by decide +kernel
theorem dksX6_endMove_1 : cX6_endMove.data.toList.drop 24 = dktX6_endMove_1 := dk_seg dksX6_endMove_0 24 rfl rfl
theorem dX6_endMove_0 : decode cX6_endMove 0 = .ok (.aload_n 0, 1) := dk_42 (dk_at dksX6_endMove_0 0 rfl rfl)
theorem dX6_endMove_1 : decode cX6_endMove 1 = .ok (.getfield 41, 3) := dk_180 0 41 (dk_at dksX6_endMove_0 1 rfl rfl)
theorem dX6_endMove_4 : decode cX6_endMove 4 = .ok (.aload_n 0, 1) := dk_42 (dk_at dksX6_endMove_0 4 rfl rfl)
theorem dX6_endMove_5 : decode cX6_endMove 5 = .ok (.getfield 32, 3) := dk_180 0 32 (dk_at dksX6_endMove_0 5 rfl rfl)
theorem dX6_endMove_8 : decode cX6_endMove 8 = .ok (.aload_n 0, 1) := dk_42 (dk_at dksX6_endMove_0 8 rfl rfl)
theorem dX6_endMove_9 : decode cX6_endMove 9 = .ok (.getfield 21, 3) := dk_180 0 21 (dk_at dksX6_endMove_0 9 rfl rfl)
theorem dX6_endMove_12 : decode cX6_endMove 12 = .ok (.iaload, 1) := dk_46 (dk_at dksX6_endMove_0 12 rfl rfl)
theorem dX6_endMove_13 : decode cX6_endMove 13 = .ok (.bipush (-2), 2) := dk_16 254 (dk_at dksX6_endMove_0 13 rfl rfl)
theorem dX6_endMove_15 : decode cX6_endMove 15 = .ok (.iastore, 1) := dk_79 (dk_at dksX6_endMove_0 15 rfl rfl)
theorem dX6_endMove_16 : decode cX6_endMove 16 = .ok (.aload_n 0, 1) := dk_42 (dk_at dksX6_endMove_0 16 rfl rfl)
theorem dX6_endMove_17 : decode cX6_endMove 17 = .ok (.getfield 41, 3) := dk_180 0 41 (dk_at dksX6_endMove_0 17 rfl rfl)
theorem dX6_endMove_20 : decode cX6_endMove 20 = .ok (.aload_n 0, 1) := dk_42 (dk_at dksX6_endMove_0 20 rfl rfl)
theorem dX6_endMove_21 : decode cX6_endMove 21 = .ok (.getfield 193, 3) := dk_180 0 193 (dk_at dksX6_endMove_0 21 rfl rfl)
theorem dX6_endMove_24 : decode cX6_endMove 24 = .ok (.aload_n 0, 1) := dk_42 (dk_at dksX6_endMove_1 0 rfl rfl)
theorem dX6_endMove_25 : decode cX6_endMove 25 = .ok (.getfield 21, 3) := dk_180 0 21 (dk_at dksX6_endMove_1 1 rfl rfl)
theorem dX6_endMove_28 : decode cX6_endMove 28 = .ok (.iastore, 1) := dk_79 (dk_at dksX6_endMove_1 4 rfl rfl)
theorem dX6_endMove_29 : decode cX6_endMove 29 = .ok (.aload_n 0, 1) := dk_42 (dk_at dksX6_endMove_1 5 rfl rfl)
theorem dX6_endMove_30 : decode cX6_endMove 30 = .ok (.getfield 32, 3) := dk_180 0 32 (dk_at dksX6_endMove_1 6 rfl rfl)
theorem dX6_endMove_33 : decode cX6_endMove 33 = .ok (.aload_n 0, 1) := dk_42 (dk_at dksX6_endMove_1 9 rfl rfl)
theorem dX6_endMove_34 : decode cX6_endMove 34 = .ok (.getfield 21, 3) := dk_180 0 21 (dk_at dksX6_endMove_1 10 rfl rfl)
theorem dX6_endMove_37 : decode cX6_endMove 37 = .ok (.aload_n 0, 1) := dk_42 (dk_at dksX6_endMove_1 13 rfl rfl)
theorem dX6_endMove_38 : decode cX6_endMove 38 = .ok (.getfield 193, 3) := dk_180 0 193 (dk_at dksX6_endMove_1 14 rfl rfl)
theorem dX6_endMove_41 : decode cX6_endMove 41 = .ok (.iastore, 1) := dk_79 (dk_at dksX6_endMove_1 17 rfl rfl)
theorem dX6_endMove_42 : decode cX6_endMove 42 = .ok (.aload_n 0, 1) := dk_42 (dk_at dksX6_endMove_1 18 rfl rfl)
theorem dX6_endMove_43 : decode cX6_endMove 43 = .ok (.iconst (-1), 1) := dk_2 (dk_at dksX6_endMove_1 19 rfl rfl)
theorem dX6_endMove_44 : decode cX6_endMove 44 = .ok (.putfield 21, 3) := dk_181 0 21 (dk_at dksX6_endMove_1 20 rfl rfl)
theorem dX6_endMove_47 : decode cX6_endMove 47 = .ok (.return_, 1) := dk_177 (dk_at dksX6_endMove_1 23 rfl rfl)
abbrev cX6_write : ByteArray := prog_2_method_19_code
def yX6_write : MethodName := ⟨RX6, "write", "(II[BI)V"⟩
def dkwX6_write_3 : List UInt8 := [177]
abbrev dktX6_write_3 : List UInt8 := dkwX6_write_3 ++ []
def dkwX6_write_2 : List UInt8 := [180, 0, 32, 27, 46, 54, 5, 42, 27, 21, 5, 28, 182, 0, 169, 42, 21, 5, 182, 0, 130, 167, 255, 212]
abbrev dktX6_write_2 : List UInt8 := dkwX6_write_2 ++ dktX6_write_3
def dkwX6_write_1 : List UInt8 := [180, 0, 25, 42, 180, 0, 32, 27, 46, 5, 28, 96, 45, 21, 4, 182, 0, 65, 154, 0, 28, 42]
abbrev dktX6_write_1 : List UInt8 := dkwX6_write_1 ++ dktX6_write_2
def dkwX6_write_0 : List UInt8 := [42, 27, 182, 0, 166, 42, 180, 0, 32, 27, 46, 2, 160, 0, 10, 42, 27, 2, 3, 182, 0, 169, 42]
abbrev dktX6_write_0 : List UInt8 := dkwX6_write_0 ++ dktX6_write_1
theorem dksX6_write_0 : cX6_write.data.toList.drop 0 = dktX6_write_0 := by decide +kernel
theorem dksX6_write_1 : cX6_write.data.toList.drop 23 = dktX6_write_1 := dk_seg dksX6_write_0 23 rfl rfl
theorem dksX6_write_2 : cX6_write.data.toList.drop 45 = dktX6_write_2 := dk_seg dksX6_write_1 22 rfl rfl
theorem dksX6_write_3 : cX6_write.data.toList.drop 69 = dktX6_write_3 := dk_seg dksX6_write_2 24 rfl rfl
theorem dX6_write_0 : decode cX6_write 0 = .ok (.aload_n 0, 1) := dk_42 (dk_at dksX6_write_0 0 rfl rfl)
theorem dX6_write_1 : decode cX6_write 1 = .ok (.iload_n 1, 1) := dk_27 (dk_at dksX6_write_0 1 rfl rfl)
theorem dX6_write_2 : decode cX6_write 2 = .ok (.invokevirtual 166, 3) := dk_182 0 166 (dk_at dksX6_write_0 2 rfl rfl)
theorem dX6_write_5 : decode cX6_write 5 = .ok (.aload_n 0, 1) := dk_42 (dk_at dksX6_write_0 5 rfl rfl)
theorem dX6_write_6 : decode cX6_write 6 = .ok (.getfield 32, 3) := dk_180 0 32 (dk_at dksX6_write_0 6 rfl rfl)
theorem dX6_write_9 : decode cX6_write 9 = .ok (.iload_n 1, 1) := dk_27 (dk_at dksX6_write_0 9 rfl rfl)
theorem dX6_write_10 : decode cX6_write 10 = .ok (.iaload, 1) := dk_46 (dk_at dksX6_write_0 10 rfl rfl)
theorem dX6_write_11 : decode cX6_write 11 = .ok (.iconst (-1), 1) := dk_2 (dk_at dksX6_write_0 11 rfl rfl)
theorem dX6_write_12 : decode cX6_write 12 = .ok (.if_icmp .ne 10, 3) := dk_160 0 10 (dk_at dksX6_write_0 12 rfl rfl)
theorem dX6_write_15 : decode cX6_write 15 = .ok (.aload_n 0, 1) := dk_42 (dk_at dksX6_write_0 15 rfl rfl)
theorem dX6_write_16 : decode cX6_write 16 = .ok (.iload_n 1, 1) := dk_27 (dk_at dksX6_write_0 16 rfl rfl)
theorem dX6_write_17 : decode cX6_write 17 = .ok (.iconst (-1), 1) := dk_2 (dk_at dksX6_write_0 17 rfl rfl)
theorem dX6_write_18 : decode cX6_write 18 = .ok (.iconst 0, 1) := dk_3 (dk_at dksX6_write_0 18 rfl rfl)
theorem dX6_write_19 : decode cX6_write 19 = .ok (.invokevirtual 169, 3) := dk_182 0 169 (dk_at dksX6_write_0 19 rfl rfl)
theorem dX6_write_22 : decode cX6_write 22 = .ok (.aload_n 0, 1) := dk_42 (dk_at dksX6_write_0 22 rfl rfl)
theorem dX6_write_23 : decode cX6_write 23 = .ok (.getfield 25, 3) := dk_180 0 25 (dk_at dksX6_write_1 0 rfl rfl)
theorem dX6_write_26 : decode cX6_write 26 = .ok (.aload_n 0, 1) := dk_42 (dk_at dksX6_write_1 3 rfl rfl)
theorem dX6_write_27 : decode cX6_write 27 = .ok (.getfield 32, 3) := dk_180 0 32 (dk_at dksX6_write_1 4 rfl rfl)
theorem dX6_write_30 : decode cX6_write 30 = .ok (.iload_n 1, 1) := dk_27 (dk_at dksX6_write_1 7 rfl rfl)
theorem dX6_write_31 : decode cX6_write 31 = .ok (.iaload, 1) := dk_46 (dk_at dksX6_write_1 8 rfl rfl)
theorem dX6_write_32 : decode cX6_write 32 = .ok (.iconst 2, 1) := dk_5 (dk_at dksX6_write_1 9 rfl rfl)
theorem dX6_write_33 : decode cX6_write 33 = .ok (.iload_n 2, 1) := dk_28 (dk_at dksX6_write_1 10 rfl rfl)
theorem dX6_write_34 : decode cX6_write 34 = .ok (.iadd, 1) := dk_96 (dk_at dksX6_write_1 11 rfl rfl)
theorem dX6_write_35 : decode cX6_write 35 = .ok (.aload_n 3, 1) := dk_45 (dk_at dksX6_write_1 12 rfl rfl)
theorem dX6_write_36 : decode cX6_write 36 = .ok (.iload 4, 2) := dk_21 4 (dk_at dksX6_write_1 13 rfl rfl)
theorem dX6_write_38 : decode cX6_write 38 = .ok (.invokevirtual 65, 3) := dk_182 0 65 (dk_at dksX6_write_1 15 rfl rfl)
theorem dX6_write_41 : decode cX6_write 41 = .ok (.ifCond .ne 28, 3) := dk_154 0 28 (dk_at dksX6_write_1 18 rfl rfl)
theorem dX6_write_44 : decode cX6_write 44 = .ok (.aload_n 0, 1) := dk_42 (dk_at dksX6_write_1 21 rfl rfl)
theorem dX6_write_45 : decode cX6_write 45 = .ok (.getfield 32, 3) := dk_180 0 32 (dk_at dksX6_write_2 0 rfl rfl)
theorem dX6_write_48 : decode cX6_write 48 = .ok (.iload_n 1, 1) := dk_27 (dk_at dksX6_write_2 3 rfl rfl)
theorem dX6_write_49 : decode cX6_write 49 = .ok (.iaload, 1) := dk_46 (dk_at dksX6_write_2 4 rfl rfl)
theorem dX6_write_50 : decode cX6_write 50 = .ok (.istore 5, 2) := dk_54 5 (dk_at dksX6_write_2 5 rfl rfl)
theorem dX6_write_52 : decode cX6_write 52 = .ok (.aload_n 0, 1) := dk_42 (dk_at dksX6_write_2 7 rfl rfl)
theorem dX6_write_53 : decode cX6_write 53 = .ok (.iload_n 1, 1) := dk_27 (dk_at dksX6_write_2 8 rfl rfl)
theorem dX6_write_54 : decode cX6_write 54 = .ok (.iload 5, 2) := dk_21 5 (dk_at dksX6_write_2 9 rfl rfl)
theorem dX6_write_56 : decode cX6_write 56 = .ok (.iload_n 2, 1) := dk_28 (dk_at dksX6_write_2 11 rfl rfl)
theorem dX6_write_57 : decode cX6_write 57 = .ok (.invokevirtual 169, 3) := dk_182 0 169 (dk_at dksX6_write_2 12 rfl rfl)
theorem dX6_write_60 : decode cX6_write 60 = .ok (.aload_n 0, 1) := dk_42 (dk_at dksX6_write_2 15 rfl rfl)
theorem dX6_write_61 : decode cX6_write 61 = .ok (.iload 5, 2) := dk_21 5 (dk_at dksX6_write_2 16 rfl rfl)
theorem dX6_write_63 : decode cX6_write 63 = .ok (.invokevirtual 130, 3) := dk_182 0 130 (dk_at dksX6_write_2 18 rfl rfl)
theorem dX6_write_66 : decode cX6_write 66 = .ok (.goto (-44), 3) := dk_167 255 212 (dk_at dksX6_write_2 21 rfl rfl)
theorem dX6_write_69 : decode cX6_write 69 = .ok (.return_, 1) := dk_177 (dk_at dksX6_write_3 0 rfl rfl)
abbrev cX6_carry : ByteArray := prog_2_method_18_code
def yX6_carry : MethodName := ⟨RX6, "carry", "(III)V"⟩
def dkwX6_carry_5 : List UInt8 := [21, 5, 79, 167, 0, 9, 42, 21, 5, 182, 0, 130, 167, 255, 130, 177]
abbrev dktX6_carry_5 : List UInt8 := dkwX6_carry_5 ++ []
def dkwX6_carry_4 : List UInt8 := [132, 6, 1, 167, 255, 205, 21, 4, 153, 0, 22, 42, 180, 0, 41, 21, 5, 27, 79, 42, 180, 0, 32, 27]
abbrev dktX6_carry_4 : List UInt8 := dkwX6_carry_4 ++ dktX6_carry_5
def dkwX6_carry_3 : List UInt8 := [182, 0, 82, 42, 180, 0, 25, 21, 5, 5, 21, 6, 96, 42, 180, 0, 15, 3, 182, 0, 65, 54, 4]
abbrev dktX6_carry_3 : List UInt8 := dkwX6_carry_3 ++ dktX6_carry_4
def dkwX6_carry_2 : List UInt8 := [162, 0, 51, 21, 4, 153, 0, 46, 42, 180, 0, 25, 28, 5, 21, 6, 96, 42, 180, 0, 15, 3]
abbrev dktX6_carry_2 : List UInt8 := dkwX6_carry_2 ++ dktX6_carry_3
def dkwX6_carry_1 : List UInt8 := [18, 157, 183, 0, 159, 191, 42, 21, 5, 27, 3, 3, 3, 182, 0, 162, 54, 4, 3, 54, 6, 21, 6, 29]
abbrev dktX6_carry_1 : List UInt8 := dkwX6_carry_1 ++ dktX6_carry_2
def dkwX6_carry_0 : List UInt8 := [3, 54, 4, 21, 4, 154, 0, 127, 42, 182, 0, 151, 54, 5, 21, 5, 2, 160, 0, 13, 187, 0, 155, 89]
abbrev dktX6_carry_0 : List UInt8 := dkwX6_carry_0 ++ dktX6_carry_1
theorem dksX6_carry_0 : cX6_carry.data.toList.drop 0 = dktX6_carry_0 := by decide +kernel
theorem dksX6_carry_1 : cX6_carry.data.toList.drop 24 = dktX6_carry_1 := dk_seg dksX6_carry_0 24 rfl rfl
theorem dksX6_carry_2 : cX6_carry.data.toList.drop 48 = dktX6_carry_2 := dk_seg dksX6_carry_1 24 rfl rfl
theorem dksX6_carry_3 : cX6_carry.data.toList.drop 70 = dktX6_carry_3 := dk_seg dksX6_carry_2 22 rfl rfl
theorem dksX6_carry_4 : cX6_carry.data.toList.drop 93 = dktX6_carry_4 := dk_seg dksX6_carry_3 23 rfl rfl
theorem dksX6_carry_5 : cX6_carry.data.toList.drop 117 = dktX6_carry_5 := dk_seg dksX6_carry_4 24 rfl rfl
theorem dX6_carry_0 : decode cX6_carry 0 = .ok (.iconst 0, 1) := dk_3 (dk_at dksX6_carry_0 0 rfl rfl)
theorem dX6_carry_1 : decode cX6_carry 1 = .ok (.istore 4, 2) := dk_54 4 (dk_at dksX6_carry_0 1 rfl rfl)
theorem dX6_carry_3 : decode cX6_carry 3 = .ok (.iload 4, 2) := dk_21 4 (dk_at dksX6_carry_0 3 rfl rfl)
theorem dX6_carry_5 : decode cX6_carry 5 = .ok (.ifCond .ne 127, 3) := dk_154 0 127 (dk_at dksX6_carry_0 5 rfl rfl)
theorem dX6_carry_8 : decode cX6_carry 8 = .ok (.aload_n 0, 1) := dk_42 (dk_at dksX6_carry_0 8 rfl rfl)
theorem dX6_carry_9 : decode cX6_carry 9 = .ok (.invokevirtual 151, 3) := dk_182 0 151 (dk_at dksX6_carry_0 9 rfl rfl)
theorem dX6_carry_12 : decode cX6_carry 12 = .ok (.istore 5, 2) := dk_54 5 (dk_at dksX6_carry_0 12 rfl rfl)
theorem dX6_carry_14 : decode cX6_carry 14 = .ok (.iload 5, 2) := dk_21 5 (dk_at dksX6_carry_0 14 rfl rfl)
theorem dX6_carry_16 : decode cX6_carry 16 = .ok (.iconst (-1), 1) := dk_2 (dk_at dksX6_carry_0 16 rfl rfl)
theorem dX6_carry_17 : decode cX6_carry 17 = .ok (.if_icmp .ne 13, 3) := dk_160 0 13 (dk_at dksX6_carry_0 17 rfl rfl)
theorem dX6_carry_20 : decode cX6_carry 20 = .ok (.new 155, 3) := dk_187 0 155 (dk_at dksX6_carry_0 20 rfl rfl)
theorem dX6_carry_23 : decode cX6_carry 23 = .ok (.dup, 1) := dk_89 (dk_at dksX6_carry_0 23 rfl rfl)
theorem dX6_carry_24 : decode cX6_carry 24 = .ok (.ldc 157, 2) := dk_18 157 (dk_at dksX6_carry_1 0 rfl rfl)
theorem dX6_carry_26 : decode cX6_carry 26 = .ok (.invokespecial 159, 3) := dk_183 0 159 (dk_at dksX6_carry_1 2 rfl rfl)
theorem dX6_carry_29 : decode cX6_carry 29 = .ok (.athrow, 1) := dk_191 (dk_at dksX6_carry_1 5 rfl rfl)
theorem dX6_carry_30 : decode cX6_carry 30 = .ok (.aload_n 0, 1) := dk_42 (dk_at dksX6_carry_1 6 rfl rfl)
theorem dX6_carry_31 : decode cX6_carry 31 = .ok (.iload 5, 2) := dk_21 5 (dk_at dksX6_carry_1 7 rfl rfl)
theorem dX6_carry_33 : decode cX6_carry 33 = .ok (.iload_n 1, 1) := dk_27 (dk_at dksX6_carry_1 9 rfl rfl)
theorem dX6_carry_34 : decode cX6_carry 34 = .ok (.iconst 0, 1) := dk_3 (dk_at dksX6_carry_1 10 rfl rfl)
theorem dX6_carry_35 : decode cX6_carry 35 = .ok (.iconst 0, 1) := dk_3 (dk_at dksX6_carry_1 11 rfl rfl)
theorem dX6_carry_36 : decode cX6_carry 36 = .ok (.iconst 0, 1) := dk_3 (dk_at dksX6_carry_1 12 rfl rfl)
theorem dX6_carry_37 : decode cX6_carry 37 = .ok (.invokevirtual 162, 3) := dk_182 0 162 (dk_at dksX6_carry_1 13 rfl rfl)
theorem dX6_carry_40 : decode cX6_carry 40 = .ok (.istore 4, 2) := dk_54 4 (dk_at dksX6_carry_1 16 rfl rfl)
theorem dX6_carry_42 : decode cX6_carry 42 = .ok (.iconst 0, 1) := dk_3 (dk_at dksX6_carry_1 18 rfl rfl)
theorem dX6_carry_43 : decode cX6_carry 43 = .ok (.istore 6, 2) := dk_54 6 (dk_at dksX6_carry_1 19 rfl rfl)
theorem dX6_carry_45 : decode cX6_carry 45 = .ok (.iload 6, 2) := dk_21 6 (dk_at dksX6_carry_1 21 rfl rfl)
theorem dX6_carry_47 : decode cX6_carry 47 = .ok (.iload_n 3, 1) := dk_29 (dk_at dksX6_carry_1 23 rfl rfl)
theorem dX6_carry_48 : decode cX6_carry 48 = .ok (.if_icmp .ge 51, 3) := dk_162 0 51 (dk_at dksX6_carry_2 0 rfl rfl)
theorem dX6_carry_51 : decode cX6_carry 51 = .ok (.iload 4, 2) := dk_21 4 (dk_at dksX6_carry_2 3 rfl rfl)
theorem dX6_carry_53 : decode cX6_carry 53 = .ok (.ifCond .eq 46, 3) := dk_153 0 46 (dk_at dksX6_carry_2 5 rfl rfl)
theorem dX6_carry_56 : decode cX6_carry 56 = .ok (.aload_n 0, 1) := dk_42 (dk_at dksX6_carry_2 8 rfl rfl)
theorem dX6_carry_57 : decode cX6_carry 57 = .ok (.getfield 25, 3) := dk_180 0 25 (dk_at dksX6_carry_2 9 rfl rfl)
theorem dX6_carry_60 : decode cX6_carry 60 = .ok (.iload_n 2, 1) := dk_28 (dk_at dksX6_carry_2 12 rfl rfl)
theorem dX6_carry_61 : decode cX6_carry 61 = .ok (.iconst 2, 1) := dk_5 (dk_at dksX6_carry_2 13 rfl rfl)
theorem dX6_carry_62 : decode cX6_carry 62 = .ok (.iload 6, 2) := dk_21 6 (dk_at dksX6_carry_2 14 rfl rfl)
theorem dX6_carry_64 : decode cX6_carry 64 = .ok (.iadd, 1) := dk_96 (dk_at dksX6_carry_2 16 rfl rfl)
theorem dX6_carry_65 : decode cX6_carry 65 = .ok (.aload_n 0, 1) := dk_42 (dk_at dksX6_carry_2 17 rfl rfl)
theorem dX6_carry_66 : decode cX6_carry 66 = .ok (.getfield 15, 3) := dk_180 0 15 (dk_at dksX6_carry_2 18 rfl rfl)
theorem dX6_carry_69 : decode cX6_carry 69 = .ok (.iconst 0, 1) := dk_3 (dk_at dksX6_carry_2 21 rfl rfl)
theorem dX6_carry_70 : decode cX6_carry 70 = .ok (.invokevirtual 82, 3) := dk_182 0 82 (dk_at dksX6_carry_3 0 rfl rfl)
theorem dX6_carry_73 : decode cX6_carry 73 = .ok (.aload_n 0, 1) := dk_42 (dk_at dksX6_carry_3 3 rfl rfl)
theorem dX6_carry_74 : decode cX6_carry 74 = .ok (.getfield 25, 3) := dk_180 0 25 (dk_at dksX6_carry_3 4 rfl rfl)
theorem dX6_carry_77 : decode cX6_carry 77 = .ok (.iload 5, 2) := dk_21 5 (dk_at dksX6_carry_3 7 rfl rfl)
theorem dX6_carry_79 : decode cX6_carry 79 = .ok (.iconst 2, 1) := dk_5 (dk_at dksX6_carry_3 9 rfl rfl)
theorem dX6_carry_80 : decode cX6_carry 80 = .ok (.iload 6, 2) := dk_21 6 (dk_at dksX6_carry_3 10 rfl rfl)
theorem dX6_carry_82 : decode cX6_carry 82 = .ok (.iadd, 1) := dk_96 (dk_at dksX6_carry_3 12 rfl rfl)
theorem dX6_carry_83 : decode cX6_carry 83 = .ok (.aload_n 0, 1) := dk_42 (dk_at dksX6_carry_3 13 rfl rfl)
theorem dX6_carry_84 : decode cX6_carry 84 = .ok (.getfield 15, 3) := dk_180 0 15 (dk_at dksX6_carry_3 14 rfl rfl)
theorem dX6_carry_87 : decode cX6_carry 87 = .ok (.iconst 0, 1) := dk_3 (dk_at dksX6_carry_3 17 rfl rfl)
theorem dX6_carry_88 : decode cX6_carry 88 = .ok (.invokevirtual 65, 3) := dk_182 0 65 (dk_at dksX6_carry_3 18 rfl rfl)
theorem dX6_carry_91 : decode cX6_carry 91 = .ok (.istore 4, 2) := dk_54 4 (dk_at dksX6_carry_3 21 rfl rfl)
theorem dX6_carry_93 : decode cX6_carry 93 = .ok (.iinc 6 1, 3) := dk_132 6 1 (dk_at dksX6_carry_4 0 rfl rfl)
theorem dX6_carry_96 : decode cX6_carry 96 = .ok (.goto (-51), 3) := dk_167 255 205 (dk_at dksX6_carry_4 3 rfl rfl)
theorem dX6_carry_99 : decode cX6_carry 99 = .ok (.iload 4, 2) := dk_21 4 (dk_at dksX6_carry_4 6 rfl rfl)
theorem dX6_carry_101 : decode cX6_carry 101 = .ok (.ifCond .eq 22, 3) := dk_153 0 22 (dk_at dksX6_carry_4 8 rfl rfl)
theorem dX6_carry_104 : decode cX6_carry 104 = .ok (.aload_n 0, 1) := dk_42 (dk_at dksX6_carry_4 11 rfl rfl)
theorem dX6_carry_105 : decode cX6_carry 105 = .ok (.getfield 41, 3) := dk_180 0 41 (dk_at dksX6_carry_4 12 rfl rfl)
theorem dX6_carry_108 : decode cX6_carry 108 = .ok (.iload 5, 2) := dk_21 5 (dk_at dksX6_carry_4 15 rfl rfl)
theorem dX6_carry_110 : decode cX6_carry 110 = .ok (.iload_n 1, 1) := dk_27 (dk_at dksX6_carry_4 17 rfl rfl)
theorem dX6_carry_111 : decode cX6_carry 111 = .ok (.iastore, 1) := dk_79 (dk_at dksX6_carry_4 18 rfl rfl)
theorem dX6_carry_112 : decode cX6_carry 112 = .ok (.aload_n 0, 1) := dk_42 (dk_at dksX6_carry_4 19 rfl rfl)
theorem dX6_carry_113 : decode cX6_carry 113 = .ok (.getfield 32, 3) := dk_180 0 32 (dk_at dksX6_carry_4 20 rfl rfl)
theorem dX6_carry_116 : decode cX6_carry 116 = .ok (.iload_n 1, 1) := dk_27 (dk_at dksX6_carry_4 23 rfl rfl)
theorem dX6_carry_117 : decode cX6_carry 117 = .ok (.iload 5, 2) := dk_21 5 (dk_at dksX6_carry_5 0 rfl rfl)
theorem dX6_carry_119 : decode cX6_carry 119 = .ok (.iastore, 1) := dk_79 (dk_at dksX6_carry_5 2 rfl rfl)
theorem dX6_carry_120 : decode cX6_carry 120 = .ok (.goto 9, 3) := dk_167 0 9 (dk_at dksX6_carry_5 3 rfl rfl)
theorem dX6_carry_123 : decode cX6_carry 123 = .ok (.aload_n 0, 1) := dk_42 (dk_at dksX6_carry_5 6 rfl rfl)
theorem dX6_carry_124 : decode cX6_carry 124 = .ok (.iload 5, 2) := dk_21 5 (dk_at dksX6_carry_5 7 rfl rfl)
theorem dX6_carry_126 : decode cX6_carry 126 = .ok (.invokevirtual 130, 3) := dk_182 0 130 (dk_at dksX6_carry_5 9 rfl rfl)
theorem dX6_carry_129 : decode cX6_carry 129 = .ok (.goto (-126), 3) := dk_167 255 130 (dk_at dksX6_carry_5 12 rfl rfl)
theorem dX6_carry_132 : decode cX6_carry 132 = .ok (.return_, 1) := dk_177 (dk_at dksX6_carry_5 15 rfl rfl)
abbrev cX6_fetch : ByteArray := prog_2_method_14_code
def yX6_fetch : MethodName := ⟨RX6, "fetch", "()I"⟩
def dkwX6_fetch_1 : List UInt8 := [167, 255, 238, 27, 172]
abbrev dktX6_fetch_1 : List UInt8 := dkwX6_fetch_1 ++ []
def dkwX6_fetch_0 : List UInt8 := [42, 3, 182, 0, 133, 60, 27, 2, 160, 0, 19, 42, 182, 0, 137, 153, 0, 12, 42, 3, 182, 0, 133, 60]
abbrev dktX6_fetch_0 : List UInt8 := dkwX6_fetch_0 ++ dktX6_fetch_1
theorem dksX6_fetch_0 : cX6_fetch.data.toList.drop 0 = dktX6_fetch_0 := by decide +kernel
theorem dksX6_fetch_1 : cX6_fetch.data.toList.drop 24 = dktX6_fetch_1 := dk_seg dksX6_fetch_0 24 rfl rfl
theorem dX6_fetch_0 : decode cX6_fetch 0 = .ok (.aload_n 0, 1) := dk_42 (dk_at dksX6_fetch_0 0 rfl rfl)
theorem dX6_fetch_1 : decode cX6_fetch 1 = .ok (.iconst 0, 1) := dk_3 (dk_at dksX6_fetch_0 1 rfl rfl)
theorem dX6_fetch_2 : decode cX6_fetch 2 = .ok (.invokevirtual 133, 3) := dk_182 0 133 (dk_at dksX6_fetch_0 2 rfl rfl)
theorem dX6_fetch_5 : decode cX6_fetch 5 = .ok (.istore_n 1, 1) := dk_60 (dk_at dksX6_fetch_0 5 rfl rfl)
theorem dX6_fetch_6 : decode cX6_fetch 6 = .ok (.iload_n 1, 1) := dk_27 (dk_at dksX6_fetch_0 6 rfl rfl)
theorem dX6_fetch_7 : decode cX6_fetch 7 = .ok (.iconst (-1), 1) := dk_2 (dk_at dksX6_fetch_0 7 rfl rfl)
theorem dX6_fetch_8 : decode cX6_fetch 8 = .ok (.if_icmp .ne 19, 3) := dk_160 0 19 (dk_at dksX6_fetch_0 8 rfl rfl)
theorem dX6_fetch_11 : decode cX6_fetch 11 = .ok (.aload_n 0, 1) := dk_42 (dk_at dksX6_fetch_0 11 rfl rfl)
theorem dX6_fetch_12 : decode cX6_fetch 12 = .ok (.invokevirtual 137, 3) := dk_182 0 137 (dk_at dksX6_fetch_0 12 rfl rfl)
theorem dX6_fetch_15 : decode cX6_fetch 15 = .ok (.ifCond .eq 12, 3) := dk_153 0 12 (dk_at dksX6_fetch_0 15 rfl rfl)
theorem dX6_fetch_18 : decode cX6_fetch 18 = .ok (.aload_n 0, 1) := dk_42 (dk_at dksX6_fetch_0 18 rfl rfl)
theorem dX6_fetch_19 : decode cX6_fetch 19 = .ok (.iconst 0, 1) := dk_3 (dk_at dksX6_fetch_0 19 rfl rfl)
theorem dX6_fetch_20 : decode cX6_fetch 20 = .ok (.invokevirtual 133, 3) := dk_182 0 133 (dk_at dksX6_fetch_0 20 rfl rfl)
theorem dX6_fetch_23 : decode cX6_fetch 23 = .ok (.istore_n 1, 1) := dk_60 (dk_at dksX6_fetch_0 23 rfl rfl)
theorem dX6_fetch_24 : decode cX6_fetch 24 = .ok (.goto (-18), 3) := dk_167 255 238 (dk_at dksX6_fetch_1 0 rfl rfl)
theorem dX6_fetch_27 : decode cX6_fetch 27 = .ok (.iload_n 1, 1) := dk_27 (dk_at dksX6_fetch_1 3 rfl rfl)
theorem dX6_fetch_28 : decode cX6_fetch 28 = .ok (.ireturn, 1) := dk_172 (dk_at dksX6_fetch_1 4 rfl rfl)
abbrev cX6_freeOne : ByteArray := prog_2_method_13_code
def yX6_freeOne : MethodName := ⟨RX6, "freeOne", "(Z)I"⟩
def dkwX6_freeOne_3 : List UInt8 := [132, 3, 1, 167, 255, 188, 28, 172]
abbrev dktX6_freeOne_3 : List UInt8 := dkwX6_freeOne_3 ++ []
def dkwX6_freeOne_2 : List UInt8 := [164, 0, 23, 167, 0, 18, 42, 180, 0, 44, 29, 46, 42, 180, 0, 44, 28, 46, 162, 0, 5, 29, 61]
abbrev dktX6_freeOne_2 : List UInt8 := dkwX6_freeOne_2 ++ dktX6_freeOne_3
def dkwX6_freeOne_1 : List UInt8 := [160, 0, 47, 28, 2, 159, 0, 40, 27, 153, 0, 21, 42, 180, 0, 44, 29, 46, 42, 180, 0, 44, 28, 46]
abbrev dktX6_freeOne_1 : List UInt8 := dkwX6_freeOne_1 ++ dktX6_freeOne_2
def dkwX6_freeOne_0 : List UInt8 := [2, 61, 3, 62, 29, 42, 180, 0, 25, 180, 0, 36, 162, 0, 63, 42, 180, 0, 41, 29, 46, 2]
abbrev dktX6_freeOne_0 : List UInt8 := dkwX6_freeOne_0 ++ dktX6_freeOne_1
theorem dksX6_freeOne_0 : cX6_freeOne.data.toList.drop 0 = dktX6_freeOne_0 := by decide +kernel
theorem dksX6_freeOne_1 : cX6_freeOne.data.toList.drop 22 = dktX6_freeOne_1 := dk_seg dksX6_freeOne_0 22 rfl rfl
theorem dksX6_freeOne_2 : cX6_freeOne.data.toList.drop 46 = dktX6_freeOne_2 := dk_seg dksX6_freeOne_1 24 rfl rfl
theorem dksX6_freeOne_3 : cX6_freeOne.data.toList.drop 69 = dktX6_freeOne_3 := dk_seg dksX6_freeOne_2 23 rfl rfl
theorem dX6_freeOne_0 : decode cX6_freeOne 0 = .ok (.iconst (-1), 1) := dk_2 (dk_at dksX6_freeOne_0 0 rfl rfl)
theorem dX6_freeOne_1 : decode cX6_freeOne 1 = .ok (.istore_n 2, 1) := dk_61 (dk_at dksX6_freeOne_0 1 rfl rfl)
theorem dX6_freeOne_2 : decode cX6_freeOne 2 = .ok (.iconst 0, 1) := dk_3 (dk_at dksX6_freeOne_0 2 rfl rfl)
theorem dX6_freeOne_3 : decode cX6_freeOne 3 = .ok (.istore_n 3, 1) := dk_62 (dk_at dksX6_freeOne_0 3 rfl rfl)
theorem dX6_freeOne_4 : decode cX6_freeOne 4 = .ok (.iload_n 3, 1) := dk_29 (dk_at dksX6_freeOne_0 4 rfl rfl)
theorem dX6_freeOne_5 : decode cX6_freeOne 5 = .ok (.aload_n 0, 1) := dk_42 (dk_at dksX6_freeOne_0 5 rfl rfl)
theorem dX6_freeOne_6 : decode cX6_freeOne 6 = .ok (.getfield 25, 3) := dk_180 0 25 (dk_at dksX6_freeOne_0 6 rfl rfl)
theorem dX6_freeOne_9 : decode cX6_freeOne 9 = .ok (.getfield 36, 3) := dk_180 0 36 (dk_at dksX6_freeOne_0 9 rfl rfl)
theorem dX6_freeOne_12 : decode cX6_freeOne 12 = .ok (.if_icmp .ge 63, 3) := dk_162 0 63 (dk_at dksX6_freeOne_0 12 rfl rfl)
theorem dX6_freeOne_15 : decode cX6_freeOne 15 = .ok (.aload_n 0, 1) := dk_42 (dk_at dksX6_freeOne_0 15 rfl rfl)
theorem dX6_freeOne_16 : decode cX6_freeOne 16 = .ok (.getfield 41, 3) := dk_180 0 41 (dk_at dksX6_freeOne_0 16 rfl rfl)
theorem dX6_freeOne_19 : decode cX6_freeOne 19 = .ok (.iload_n 3, 1) := dk_29 (dk_at dksX6_freeOne_0 19 rfl rfl)
theorem dX6_freeOne_20 : decode cX6_freeOne 20 = .ok (.iaload, 1) := dk_46 (dk_at dksX6_freeOne_0 20 rfl rfl)
theorem dX6_freeOne_21 : decode cX6_freeOne 21 = .ok (.iconst (-1), 1) := dk_2 (dk_at dksX6_freeOne_0 21 rfl rfl)
theorem dX6_freeOne_22 : decode cX6_freeOne 22 = .ok (.if_icmp .ne 47, 3) := dk_160 0 47 (dk_at dksX6_freeOne_1 0 rfl rfl)
theorem dX6_freeOne_25 : decode cX6_freeOne 25 = .ok (.iload_n 2, 1) := dk_28 (dk_at dksX6_freeOne_1 3 rfl rfl)
theorem dX6_freeOne_26 : decode cX6_freeOne 26 = .ok (.iconst (-1), 1) := dk_2 (dk_at dksX6_freeOne_1 4 rfl rfl)
theorem dX6_freeOne_27 : decode cX6_freeOne 27 = .ok (.if_icmp .eq 40, 3) := dk_159 0 40 (dk_at dksX6_freeOne_1 5 rfl rfl)
theorem dX6_freeOne_30 : decode cX6_freeOne 30 = .ok (.iload_n 1, 1) := dk_27 (dk_at dksX6_freeOne_1 8 rfl rfl)
theorem dX6_freeOne_31 : decode cX6_freeOne 31 = .ok (.ifCond .eq 21, 3) := dk_153 0 21 (dk_at dksX6_freeOne_1 9 rfl rfl)
theorem dX6_freeOne_34 : decode cX6_freeOne 34 = .ok (.aload_n 0, 1) := dk_42 (dk_at dksX6_freeOne_1 12 rfl rfl)
theorem dX6_freeOne_35 : decode cX6_freeOne 35 = .ok (.getfield 44, 3) := dk_180 0 44 (dk_at dksX6_freeOne_1 13 rfl rfl)
theorem dX6_freeOne_38 : decode cX6_freeOne 38 = .ok (.iload_n 3, 1) := dk_29 (dk_at dksX6_freeOne_1 16 rfl rfl)
theorem dX6_freeOne_39 : decode cX6_freeOne 39 = .ok (.iaload, 1) := dk_46 (dk_at dksX6_freeOne_1 17 rfl rfl)
theorem dX6_freeOne_40 : decode cX6_freeOne 40 = .ok (.aload_n 0, 1) := dk_42 (dk_at dksX6_freeOne_1 18 rfl rfl)
theorem dX6_freeOne_41 : decode cX6_freeOne 41 = .ok (.getfield 44, 3) := dk_180 0 44 (dk_at dksX6_freeOne_1 19 rfl rfl)
theorem dX6_freeOne_44 : decode cX6_freeOne 44 = .ok (.iload_n 2, 1) := dk_28 (dk_at dksX6_freeOne_1 22 rfl rfl)
theorem dX6_freeOne_45 : decode cX6_freeOne 45 = .ok (.iaload, 1) := dk_46 (dk_at dksX6_freeOne_1 23 rfl rfl)
theorem dX6_freeOne_46 : decode cX6_freeOne 46 = .ok (.if_icmp .le 23, 3) := dk_164 0 23 (dk_at dksX6_freeOne_2 0 rfl rfl)
theorem dX6_freeOne_49 : decode cX6_freeOne 49 = .ok (.goto 18, 3) := dk_167 0 18 (dk_at dksX6_freeOne_2 3 rfl rfl)
theorem dX6_freeOne_52 : decode cX6_freeOne 52 = .ok (.aload_n 0, 1) := dk_42 (dk_at dksX6_freeOne_2 6 rfl rfl)
theorem dX6_freeOne_53 : decode cX6_freeOne 53 = .ok (.getfield 44, 3) := dk_180 0 44 (dk_at dksX6_freeOne_2 7 rfl rfl)
theorem dX6_freeOne_56 : decode cX6_freeOne 56 = .ok (.iload_n 3, 1) := dk_29 (dk_at dksX6_freeOne_2 10 rfl rfl)
theorem dX6_freeOne_57 : decode cX6_freeOne 57 = .ok (.iaload, 1) := dk_46 (dk_at dksX6_freeOne_2 11 rfl rfl)
theorem dX6_freeOne_58 : decode cX6_freeOne 58 = .ok (.aload_n 0, 1) := dk_42 (dk_at dksX6_freeOne_2 12 rfl rfl)
theorem dX6_freeOne_59 : decode cX6_freeOne 59 = .ok (.getfield 44, 3) := dk_180 0 44 (dk_at dksX6_freeOne_2 13 rfl rfl)
theorem dX6_freeOne_62 : decode cX6_freeOne 62 = .ok (.iload_n 2, 1) := dk_28 (dk_at dksX6_freeOne_2 16 rfl rfl)
theorem dX6_freeOne_63 : decode cX6_freeOne 63 = .ok (.iaload, 1) := dk_46 (dk_at dksX6_freeOne_2 17 rfl rfl)
theorem dX6_freeOne_64 : decode cX6_freeOne 64 = .ok (.if_icmp .ge 5, 3) := dk_162 0 5 (dk_at dksX6_freeOne_2 18 rfl rfl)
theorem dX6_freeOne_67 : decode cX6_freeOne 67 = .ok (.iload_n 3, 1) := dk_29 (dk_at dksX6_freeOne_2 21 rfl rfl)
theorem dX6_freeOne_68 : decode cX6_freeOne 68 = .ok (.istore_n 2, 1) := dk_61 (dk_at dksX6_freeOne_2 22 rfl rfl)
theorem dX6_freeOne_69 : decode cX6_freeOne 69 = .ok (.iinc 3 1, 3) := dk_132 3 1 (dk_at dksX6_freeOne_3 0 rfl rfl)
theorem dX6_freeOne_72 : decode cX6_freeOne 72 = .ok (.goto (-68), 3) := dk_167 255 188 (dk_at dksX6_freeOne_3 3 rfl rfl)
theorem dX6_freeOne_75 : decode cX6_freeOne 75 = .ok (.iload_n 2, 1) := dk_28 (dk_at dksX6_freeOne_3 6 rfl rfl)
theorem dX6_freeOne_76 : decode cX6_freeOne 76 = .ok (.ireturn, 1) := dk_172 (dk_at dksX6_freeOne_3 7 rfl rfl)
abbrev cX6_eraseOne : ByteArray := prog_2_method_11_code
def yX6_eraseOne : MethodName := ⟨RX6, "eraseOne", "()Z"⟩
def dkwX6_eraseOne_1 : List UInt8 := [42, 27, 182, 0, 117, 4, 172, 132, 1, 1, 167, 255, 224, 3, 172]
abbrev dktX6_eraseOne_1 : List UInt8 := dkwX6_eraseOne_1 ++ []
def dkwX6_eraseOne_0 : List UInt8 := [3, 60, 27, 42, 180, 0, 25, 180, 0, 36, 162, 0, 27, 42, 180, 0, 41, 27, 46, 16, 254, 160, 0, 10]
abbrev dktX6_eraseOne_0 : List UInt8 := dkwX6_eraseOne_0 ++ dktX6_eraseOne_1
theorem dksX6_eraseOne_0 : cX6_eraseOne.data.toList.drop 0 = dktX6_eraseOne_0 := by decide +kernel
theorem dksX6_eraseOne_1 : cX6_eraseOne.data.toList.drop 24 = dktX6_eraseOne_1 := dk_seg dksX6_eraseOne_0 24 rfl rfl
theorem dX6_eraseOne_0 : decode cX6_eraseOne 0 = .ok (.iconst 0, 1) := dk_3 (dk_at dksX6_eraseOne_0 0 rfl rfl)
theorem dX6_eraseOne_1 : decode cX6_eraseOne 1 = .ok (.istore_n 1, 1) := dk_60 (dk_at dksX6_eraseOne_0 1 rfl rfl)
theorem dX6_eraseOne_2 : decode cX6_eraseOne 2 = .ok (.iload_n 1, 1) := dk_27 (dk_at dksX6_eraseOne_0 2 rfl rfl)
theorem dX6_eraseOne_3 : decode cX6_eraseOne 3 = .ok (.aload_n 0, 1) := dk_42 (dk_at dksX6_eraseOne_0 3 rfl rfl)
theorem dX6_eraseOne_4 : decode cX6_eraseOne 4 = .ok (.getfield 25, 3) := dk_180 0 25 (dk_at dksX6_eraseOne_0 4 rfl rfl)
theorem dX6_eraseOne_7 : decode cX6_eraseOne 7 = .ok (.getfield 36, 3) := dk_180 0 36 (dk_at dksX6_eraseOne_0 7 rfl rfl)
theorem dX6_eraseOne_10 : decode cX6_eraseOne 10 = .ok (.if_icmp .ge 27, 3) := dk_162 0 27 (dk_at dksX6_eraseOne_0 10 rfl rfl)
theorem dX6_eraseOne_13 : decode cX6_eraseOne 13 = .ok (.aload_n 0, 1) := dk_42 (dk_at dksX6_eraseOne_0 13 rfl rfl)
theorem dX6_eraseOne_14 : decode cX6_eraseOne 14 = .ok (.getfield 41, 3) := dk_180 0 41 (dk_at dksX6_eraseOne_0 14 rfl rfl)
theorem dX6_eraseOne_17 : decode cX6_eraseOne 17 = .ok (.iload_n 1, 1) := dk_27 (dk_at dksX6_eraseOne_0 17 rfl rfl)
theorem dX6_eraseOne_18 : decode cX6_eraseOne 18 = .ok (.iaload, 1) := dk_46 (dk_at dksX6_eraseOne_0 18 rfl rfl)
theorem dX6_eraseOne_19 : decode cX6_eraseOne 19 = .ok (.bipush (-2), 2) := dk_16 254 (dk_at dksX6_eraseOne_0 19 rfl rfl)
theorem dX6_eraseOne_21 : decode cX6_eraseOne 21 = .ok (.if_icmp .ne 10, 3) := dk_160 0 10 (dk_at dksX6_eraseOne_0 21 rfl rfl)
theorem dX6_eraseOne_24 : decode cX6_eraseOne 24 = .ok (.aload_n 0, 1) := dk_42 (dk_at dksX6_eraseOne_1 0 rfl rfl)
theorem dX6_eraseOne_25 : decode cX6_eraseOne 25 = .ok (.iload_n 1, 1) := dk_27 (dk_at dksX6_eraseOne_1 1 rfl rfl)
theorem dX6_eraseOne_26 : decode cX6_eraseOne 26 = .ok (.invokevirtual 117, 3) := dk_182 0 117 (dk_at dksX6_eraseOne_1 2 rfl rfl)
theorem dX6_eraseOne_29 : decode cX6_eraseOne 29 = .ok (.iconst 1, 1) := dk_4 (dk_at dksX6_eraseOne_1 5 rfl rfl)
theorem dX6_eraseOne_30 : decode cX6_eraseOne 30 = .ok (.ireturn, 1) := dk_172 (dk_at dksX6_eraseOne_1 6 rfl rfl)
theorem dX6_eraseOne_31 : decode cX6_eraseOne 31 = .ok (.iinc 1 1, 3) := dk_132 1 1 (dk_at dksX6_eraseOne_1 7 rfl rfl)
theorem dX6_eraseOne_34 : decode cX6_eraseOne 34 = .ok (.goto (-32), 3) := dk_167 255 224 (dk_at dksX6_eraseOne_1 10 rfl rfl)
theorem dX6_eraseOne_37 : decode cX6_eraseOne 37 = .ok (.iconst 0, 1) := dk_3 (dk_at dksX6_eraseOne_1 13 rfl rfl)
theorem dX6_eraseOne_38 : decode cX6_eraseOne 38 = .ok (.ireturn, 1) := dk_172 (dk_at dksX6_eraseOne_1 14 rfl rfl)
abbrev cX6_writeHead : ByteArray := prog_2_method_4_code
def yX6_writeHead : MethodName := ⟨RX6, "writeHead", "(IIZII)Z"⟩
def dkwX6_writeHead_5 : List UInt8 := [182, 0, 65, 172]
abbrev dktX6_writeHead_5 : List UInt8 := dkwX6_writeHead_5 ++ []
def dkwX6_writeHead_4 : List UInt8 := [180, 0, 9, 3, 16, 28, 184, 0, 61, 184, 0, 57, 42, 180, 0, 25, 27, 4, 42, 180, 0, 9, 3]
abbrev dktX6_writeHead_4 : List UInt8 := dkwX6_writeHead_4 ++ dktX6_writeHead_5
def dkwX6_writeHead_3 : List UInt8 := [21, 4, 184, 0, 57, 42, 180, 0, 9, 16, 24, 21, 5, 184, 0, 57, 42, 180, 0, 9, 16, 28, 2, 42]
abbrev dktX6_writeHead_3 : List UInt8 := dkwX6_writeHead_3 ++ dktX6_writeHead_4
def dkwX6_writeHead_2 : List UInt8 := [180, 0, 9, 16, 16, 29, 153, 0, 7, 4, 167, 0, 4, 3, 184, 0, 57, 42, 180, 0, 9, 16, 20]
abbrev dktX6_writeHead_2 : List UInt8 := dkwX6_writeHead_2 ++ dktX6_writeHead_3
def dkwX6_writeHead_1 : List UInt8 := [184, 0, 57, 42, 180, 0, 9, 16, 8, 42, 89, 180, 0, 70, 10, 97, 93, 181, 0, 70, 184, 0, 74, 42]
abbrev dktX6_writeHead_1 : List UInt8 := dkwX6_writeHead_1 ++ dktX6_writeHead_2
def dkwX6_writeHead_0 : List UInt8 := [42, 180, 0, 9, 3, 184, 0, 50, 42, 180, 0, 9, 3, 18, 69, 184, 0, 57, 42, 180, 0, 9, 7, 28]
abbrev dktX6_writeHead_0 : List UInt8 := dkwX6_writeHead_0 ++ dktX6_writeHead_1
theorem dksX6_writeHead_0 : cX6_writeHead.data.toList.drop 0 = dktX6_writeHead_0 := by decide +kernel
theorem dksX6_writeHead_1 : cX6_writeHead.data.toList.drop 24 = dktX6_writeHead_1 := dk_seg dksX6_writeHead_0 24 rfl rfl
theorem dksX6_writeHead_2 : cX6_writeHead.data.toList.drop 48 = dktX6_writeHead_2 := dk_seg dksX6_writeHead_1 24 rfl rfl
theorem dksX6_writeHead_3 : cX6_writeHead.data.toList.drop 71 = dktX6_writeHead_3 := dk_seg dksX6_writeHead_2 23 rfl rfl
theorem dksX6_writeHead_4 : cX6_writeHead.data.toList.drop 95 = dktX6_writeHead_4 := dk_seg dksX6_writeHead_3 24 rfl rfl
theorem dksX6_writeHead_5 : cX6_writeHead.data.toList.drop 118 = dktX6_writeHead_5 := dk_seg dksX6_writeHead_4 23 rfl rfl
theorem dX6_writeHead_0 : decode cX6_writeHead 0 = .ok (.aload_n 0, 1) := dk_42 (dk_at dksX6_writeHead_0 0 rfl rfl)
theorem dX6_writeHead_1 : decode cX6_writeHead 1 = .ok (.getfield 9, 3) := dk_180 0 9 (dk_at dksX6_writeHead_0 1 rfl rfl)
theorem dX6_writeHead_4 : decode cX6_writeHead 4 = .ok (.iconst 0, 1) := dk_3 (dk_at dksX6_writeHead_0 4 rfl rfl)
theorem dX6_writeHead_5 : decode cX6_writeHead 5 = .ok (.invokestatic 50, 3) := dk_184 0 50 (dk_at dksX6_writeHead_0 5 rfl rfl)
theorem dX6_writeHead_8 : decode cX6_writeHead 8 = .ok (.aload_n 0, 1) := dk_42 (dk_at dksX6_writeHead_0 8 rfl rfl)
theorem dX6_writeHead_9 : decode cX6_writeHead 9 = .ok (.getfield 9, 3) := dk_180 0 9 (dk_at dksX6_writeHead_0 9 rfl rfl)
theorem dX6_writeHead_12 : decode cX6_writeHead 12 = .ok (.iconst 0, 1) := dk_3 (dk_at dksX6_writeHead_0 12 rfl rfl)
theorem dX6_writeHead_13 : decode cX6_writeHead 13 = .ok (.ldc 69, 2) := dk_18 69 (dk_at dksX6_writeHead_0 13 rfl rfl)
theorem dX6_writeHead_15 : decode cX6_writeHead 15 = .ok (.invokestatic 57, 3) := dk_184 0 57 (dk_at dksX6_writeHead_0 15 rfl rfl)
theorem dX6_writeHead_18 : decode cX6_writeHead 18 = .ok (.aload_n 0, 1) := dk_42 (dk_at dksX6_writeHead_0 18 rfl rfl)
theorem dX6_writeHead_19 : decode cX6_writeHead 19 = .ok (.getfield 9, 3) := dk_180 0 9 (dk_at dksX6_writeHead_0 19 rfl rfl)
theorem dX6_writeHead_22 : decode cX6_writeHead 22 = .ok (.iconst 4, 1) := dk_7 (dk_at dksX6_writeHead_0 22 rfl rfl)
theorem dX6_writeHead_23 : decode cX6_writeHead 23 = .ok (.iload_n 2, 1) := dk_28 (dk_at dksX6_writeHead_0 23 rfl rfl)
theorem dX6_writeHead_24 : decode cX6_writeHead 24 = .ok (.invokestatic 57, 3) := dk_184 0 57 (dk_at dksX6_writeHead_1 0 rfl rfl)
theorem dX6_writeHead_27 : decode cX6_writeHead 27 = .ok (.aload_n 0, 1) := dk_42 (dk_at dksX6_writeHead_1 3 rfl rfl)
theorem dX6_writeHead_28 : decode cX6_writeHead 28 = .ok (.getfield 9, 3) := dk_180 0 9 (dk_at dksX6_writeHead_1 4 rfl rfl)
theorem dX6_writeHead_31 : decode cX6_writeHead 31 = .ok (.bipush 8, 2) := dk_16 8 (dk_at dksX6_writeHead_1 7 rfl rfl)
theorem dX6_writeHead_33 : decode cX6_writeHead 33 = .ok (.aload_n 0, 1) := dk_42 (dk_at dksX6_writeHead_1 9 rfl rfl)
theorem dX6_writeHead_34 : decode cX6_writeHead 34 = .ok (.dup, 1) := dk_89 (dk_at dksX6_writeHead_1 10 rfl rfl)
theorem dX6_writeHead_35 : decode cX6_writeHead 35 = .ok (.getfield 70, 3) := dk_180 0 70 (dk_at dksX6_writeHead_1 11 rfl rfl)
theorem dX6_writeHead_38 : decode cX6_writeHead 38 = .ok (.lconst 1, 1) := dk_10 (dk_at dksX6_writeHead_1 14 rfl rfl)
theorem dX6_writeHead_39 : decode cX6_writeHead 39 = .ok (.ladd, 1) := dk_97 (dk_at dksX6_writeHead_1 15 rfl rfl)
theorem dX6_writeHead_40 : decode cX6_writeHead 40 = .ok (.dup2_x1, 1) := dk_93 (dk_at dksX6_writeHead_1 16 rfl rfl)
theorem dX6_writeHead_41 : decode cX6_writeHead 41 = .ok (.putfield 70, 3) := dk_181 0 70 (dk_at dksX6_writeHead_1 17 rfl rfl)
theorem dX6_writeHead_44 : decode cX6_writeHead 44 = .ok (.invokestatic 74, 3) := dk_184 0 74 (dk_at dksX6_writeHead_1 20 rfl rfl)
theorem dX6_writeHead_47 : decode cX6_writeHead 47 = .ok (.aload_n 0, 1) := dk_42 (dk_at dksX6_writeHead_1 23 rfl rfl)
theorem dX6_writeHead_48 : decode cX6_writeHead 48 = .ok (.getfield 9, 3) := dk_180 0 9 (dk_at dksX6_writeHead_2 0 rfl rfl)
theorem dX6_writeHead_51 : decode cX6_writeHead 51 = .ok (.bipush 16, 2) := dk_16 16 (dk_at dksX6_writeHead_2 3 rfl rfl)
theorem dX6_writeHead_53 : decode cX6_writeHead 53 = .ok (.iload_n 3, 1) := dk_29 (dk_at dksX6_writeHead_2 5 rfl rfl)
theorem dX6_writeHead_54 : decode cX6_writeHead 54 = .ok (.ifCond .eq 7, 3) := dk_153 0 7 (dk_at dksX6_writeHead_2 6 rfl rfl)
theorem dX6_writeHead_57 : decode cX6_writeHead 57 = .ok (.iconst 1, 1) := dk_4 (dk_at dksX6_writeHead_2 9 rfl rfl)
theorem dX6_writeHead_58 : decode cX6_writeHead 58 = .ok (.goto 4, 3) := dk_167 0 4 (dk_at dksX6_writeHead_2 10 rfl rfl)
theorem dX6_writeHead_61 : decode cX6_writeHead 61 = .ok (.iconst 0, 1) := dk_3 (dk_at dksX6_writeHead_2 13 rfl rfl)
theorem dX6_writeHead_62 : decode cX6_writeHead 62 = .ok (.invokestatic 57, 3) := dk_184 0 57 (dk_at dksX6_writeHead_2 14 rfl rfl)
theorem dX6_writeHead_65 : decode cX6_writeHead 65 = .ok (.aload_n 0, 1) := dk_42 (dk_at dksX6_writeHead_2 17 rfl rfl)
theorem dX6_writeHead_66 : decode cX6_writeHead 66 = .ok (.getfield 9, 3) := dk_180 0 9 (dk_at dksX6_writeHead_2 18 rfl rfl)
theorem dX6_writeHead_69 : decode cX6_writeHead 69 = .ok (.bipush 20, 2) := dk_16 20 (dk_at dksX6_writeHead_2 21 rfl rfl)
theorem dX6_writeHead_71 : decode cX6_writeHead 71 = .ok (.iload 4, 2) := dk_21 4 (dk_at dksX6_writeHead_3 0 rfl rfl)
theorem dX6_writeHead_73 : decode cX6_writeHead 73 = .ok (.invokestatic 57, 3) := dk_184 0 57 (dk_at dksX6_writeHead_3 2 rfl rfl)
theorem dX6_writeHead_76 : decode cX6_writeHead 76 = .ok (.aload_n 0, 1) := dk_42 (dk_at dksX6_writeHead_3 5 rfl rfl)
theorem dX6_writeHead_77 : decode cX6_writeHead 77 = .ok (.getfield 9, 3) := dk_180 0 9 (dk_at dksX6_writeHead_3 6 rfl rfl)
theorem dX6_writeHead_80 : decode cX6_writeHead 80 = .ok (.bipush 24, 2) := dk_16 24 (dk_at dksX6_writeHead_3 9 rfl rfl)
theorem dX6_writeHead_82 : decode cX6_writeHead 82 = .ok (.iload 5, 2) := dk_21 5 (dk_at dksX6_writeHead_3 11 rfl rfl)
theorem dX6_writeHead_84 : decode cX6_writeHead 84 = .ok (.invokestatic 57, 3) := dk_184 0 57 (dk_at dksX6_writeHead_3 13 rfl rfl)
theorem dX6_writeHead_87 : decode cX6_writeHead 87 = .ok (.aload_n 0, 1) := dk_42 (dk_at dksX6_writeHead_3 16 rfl rfl)
theorem dX6_writeHead_88 : decode cX6_writeHead 88 = .ok (.getfield 9, 3) := dk_180 0 9 (dk_at dksX6_writeHead_3 17 rfl rfl)
theorem dX6_writeHead_91 : decode cX6_writeHead 91 = .ok (.bipush 28, 2) := dk_16 28 (dk_at dksX6_writeHead_3 20 rfl rfl)
theorem dX6_writeHead_93 : decode cX6_writeHead 93 = .ok (.iconst (-1), 1) := dk_2 (dk_at dksX6_writeHead_3 22 rfl rfl)
theorem dX6_writeHead_94 : decode cX6_writeHead 94 = .ok (.aload_n 0, 1) := dk_42 (dk_at dksX6_writeHead_3 23 rfl rfl)
theorem dX6_writeHead_95 : decode cX6_writeHead 95 = .ok (.getfield 9, 3) := dk_180 0 9 (dk_at dksX6_writeHead_4 0 rfl rfl)
theorem dX6_writeHead_98 : decode cX6_writeHead 98 = .ok (.iconst 0, 1) := dk_3 (dk_at dksX6_writeHead_4 3 rfl rfl)
theorem dX6_writeHead_99 : decode cX6_writeHead 99 = .ok (.bipush 28, 2) := dk_16 28 (dk_at dksX6_writeHead_4 4 rfl rfl)
theorem dX6_writeHead_101 : decode cX6_writeHead 101 = .ok (.invokestatic 61, 3) := dk_184 0 61 (dk_at dksX6_writeHead_4 6 rfl rfl)
theorem dX6_writeHead_104 : decode cX6_writeHead 104 = .ok (.invokestatic 57, 3) := dk_184 0 57 (dk_at dksX6_writeHead_4 9 rfl rfl)
theorem dX6_writeHead_107 : decode cX6_writeHead 107 = .ok (.aload_n 0, 1) := dk_42 (dk_at dksX6_writeHead_4 12 rfl rfl)
theorem dX6_writeHead_108 : decode cX6_writeHead 108 = .ok (.getfield 25, 3) := dk_180 0 25 (dk_at dksX6_writeHead_4 13 rfl rfl)
theorem dX6_writeHead_111 : decode cX6_writeHead 111 = .ok (.iload_n 1, 1) := dk_27 (dk_at dksX6_writeHead_4 16 rfl rfl)
theorem dX6_writeHead_112 : decode cX6_writeHead 112 = .ok (.iconst 1, 1) := dk_4 (dk_at dksX6_writeHead_4 17 rfl rfl)
theorem dX6_writeHead_113 : decode cX6_writeHead 113 = .ok (.aload_n 0, 1) := dk_42 (dk_at dksX6_writeHead_4 18 rfl rfl)
theorem dX6_writeHead_114 : decode cX6_writeHead 114 = .ok (.getfield 9, 3) := dk_180 0 9 (dk_at dksX6_writeHead_4 19 rfl rfl)
theorem dX6_writeHead_117 : decode cX6_writeHead 117 = .ok (.iconst 0, 1) := dk_3 (dk_at dksX6_writeHead_4 22 rfl rfl)
theorem dX6_writeHead_118 : decode cX6_writeHead 118 = .ok (.invokevirtual 65, 3) := dk_182 0 65 (dk_at dksX6_writeHead_5 0 rfl rfl)
theorem dX6_writeHead_121 : decode cX6_writeHead 121 = .ok (.ireturn, 1) := dk_172 (dk_at dksX6_writeHead_5 3 rfl rfl)
abbrev cX6_written : ByteArray := prog_2_method_16_code
def yX6_written : MethodName := ⟨RX6, "written", "(I)I"⟩
def dkwX6_written_1 : List UInt8 := [46, 182, 0, 78, 5, 100, 184, 0, 141, 172]
abbrev dktX6_written_1 : List UInt8 := dkwX6_written_1 ++ []
def dkwX6_written_0 : List UInt8 := [42, 180, 0, 32, 27, 46, 2, 160, 0, 7, 3, 167, 0, 22, 3, 42, 180, 0, 25, 42, 180, 0, 32, 27]
abbrev dktX6_written_0 : List UInt8 := dkwX6_written_0 ++ dktX6_written_1
theorem dksX6_written_0 : cX6_written.data.toList.drop 0 = dktX6_written_0 := by decide +kernel
theorem dksX6_written_1 : cX6_written.data.toList.drop 24 = dktX6_written_1 := dk_seg dksX6_written_0 24 rfl rfl
theorem dX6_written_0 : decode cX6_written 0 = .ok (.aload_n 0, 1) := dk_42 (dk_at dksX6_written_0 0 rfl rfl)
theorem dX6_written_1 : decode cX6_written 1 = .ok (.getfield 32, 3) := dk_180 0 32 (dk_at dksX6_written_0 1 rfl rfl)
theorem dX6_written_4 : decode cX6_written 4 = .ok (.iload_n 1, 1) := dk_27 (dk_at dksX6_written_0 4 rfl rfl)
theorem dX6_written_5 : decode cX6_written 5 = .ok (.iaload, 1) := dk_46 (dk_at dksX6_written_0 5 rfl rfl)
theorem dX6_written_6 : decode cX6_written 6 = .ok (.iconst (-1), 1) := dk_2 (dk_at dksX6_written_0 6 rfl rfl)
theorem dX6_written_7 : decode cX6_written 7 = .ok (.if_icmp .ne 7, 3) := dk_160 0 7 (dk_at dksX6_written_0 7 rfl rfl)
theorem dX6_written_10 : decode cX6_written 10 = .ok (.iconst 0, 1) := dk_3 (dk_at dksX6_written_0 10 rfl rfl)
theorem dX6_written_11 : decode cX6_written 11 = .ok (.goto 22, 3) := dk_167 0 22 (dk_at dksX6_written_0 11 rfl rfl)
theorem dX6_written_14 : decode cX6_written 14 = .ok (.iconst 0, 1) := dk_3 (dk_at dksX6_written_0 14 rfl rfl)
theorem dX6_written_15 : decode cX6_written 15 = .ok (.aload_n 0, 1) := dk_42 (dk_at dksX6_written_0 15 rfl rfl)
theorem dX6_written_16 : decode cX6_written 16 = .ok (.getfield 25, 3) := dk_180 0 25 (dk_at dksX6_written_0 16 rfl rfl)
theorem dX6_written_19 : decode cX6_written 19 = .ok (.aload_n 0, 1) := dk_42 (dk_at dksX6_written_0 19 rfl rfl)
theorem dX6_written_20 : decode cX6_written 20 = .ok (.getfield 32, 3) := dk_180 0 32 (dk_at dksX6_written_0 20 rfl rfl)
theorem dX6_written_23 : decode cX6_written 23 = .ok (.iload_n 1, 1) := dk_27 (dk_at dksX6_written_0 23 rfl rfl)
theorem dX6_written_24 : decode cX6_written 24 = .ok (.iaload, 1) := dk_46 (dk_at dksX6_written_1 0 rfl rfl)
theorem dX6_written_25 : decode cX6_written 25 = .ok (.invokevirtual 78, 3) := dk_182 0 78 (dk_at dksX6_written_1 1 rfl rfl)
theorem dX6_written_28 : decode cX6_written 28 = .ok (.iconst 2, 1) := dk_5 (dk_at dksX6_written_1 4 rfl rfl)
theorem dX6_written_29 : decode cX6_written 29 = .ok (.isub, 1) := dk_100 (dk_at dksX6_written_1 5 rfl rfl)
theorem dX6_written_30 : decode cX6_written 30 = .ok (.invokestatic 141, 3) := dk_184 0 141 (dk_at dksX6_written_1 6 rfl rfl)
theorem dX6_written_33 : decode cX6_written 33 = .ok (.ireturn, 1) := dk_172 (dk_at dksX6_written_1 9 rfl rfl)
abbrev cX6_read : ByteArray := prog_2_method_17_code
def yX6_read : MethodName := ⟨RX6, "read", "(II[BI)V"⟩
def dkwX6_read_1 : List UInt8 := [21, 4, 182, 0, 82, 167, 0, 16, 45, 21, 4, 21, 4, 17, 0, 128, 96, 2, 184, 0, 148, 177]
abbrev dktX6_read_1 : List UInt8 := dkwX6_read_1 ++ []
def dkwX6_read_0 : List UInt8 := [28, 42, 27, 182, 0, 147, 162, 0, 25, 42, 180, 0, 25, 42, 180, 0, 32, 27, 46, 5, 28, 96, 45]
abbrev dktX6_read_0 : List UInt8 := dkwX6_read_0 ++ dktX6_read_1
theorem dksX6_read_0 : cX6_read.data.toList.drop 0 = dktX6_read_0 := by decide +kernel
theorem dksX6_read_1 : cX6_read.data.toList.drop 23 = dktX6_read_1 := dk_seg dksX6_read_0 23 rfl rfl
theorem dX6_read_0 : decode cX6_read 0 = .ok (.iload_n 2, 1) := dk_28 (dk_at dksX6_read_0 0 rfl rfl)
theorem dX6_read_1 : decode cX6_read 1 = .ok (.aload_n 0, 1) := dk_42 (dk_at dksX6_read_0 1 rfl rfl)
theorem dX6_read_2 : decode cX6_read 2 = .ok (.iload_n 1, 1) := dk_27 (dk_at dksX6_read_0 2 rfl rfl)
theorem dX6_read_3 : decode cX6_read 3 = .ok (.invokevirtual 147, 3) := dk_182 0 147 (dk_at dksX6_read_0 3 rfl rfl)
theorem dX6_read_6 : decode cX6_read 6 = .ok (.if_icmp .ge 25, 3) := dk_162 0 25 (dk_at dksX6_read_0 6 rfl rfl)
theorem dX6_read_9 : decode cX6_read 9 = .ok (.aload_n 0, 1) := dk_42 (dk_at dksX6_read_0 9 rfl rfl)
theorem dX6_read_10 : decode cX6_read 10 = .ok (.getfield 25, 3) := dk_180 0 25 (dk_at dksX6_read_0 10 rfl rfl)
theorem dX6_read_13 : decode cX6_read 13 = .ok (.aload_n 0, 1) := dk_42 (dk_at dksX6_read_0 13 rfl rfl)
theorem dX6_read_14 : decode cX6_read 14 = .ok (.getfield 32, 3) := dk_180 0 32 (dk_at dksX6_read_0 14 rfl rfl)
theorem dX6_read_17 : decode cX6_read 17 = .ok (.iload_n 1, 1) := dk_27 (dk_at dksX6_read_0 17 rfl rfl)
theorem dX6_read_18 : decode cX6_read 18 = .ok (.iaload, 1) := dk_46 (dk_at dksX6_read_0 18 rfl rfl)
theorem dX6_read_19 : decode cX6_read 19 = .ok (.iconst 2, 1) := dk_5 (dk_at dksX6_read_0 19 rfl rfl)
theorem dX6_read_20 : decode cX6_read 20 = .ok (.iload_n 2, 1) := dk_28 (dk_at dksX6_read_0 20 rfl rfl)
theorem dX6_read_21 : decode cX6_read 21 = .ok (.iadd, 1) := dk_96 (dk_at dksX6_read_0 21 rfl rfl)
theorem dX6_read_22 : decode cX6_read 22 = .ok (.aload_n 3, 1) := dk_45 (dk_at dksX6_read_0 22 rfl rfl)
theorem dX6_read_23 : decode cX6_read 23 = .ok (.iload 4, 2) := dk_21 4 (dk_at dksX6_read_1 0 rfl rfl)
theorem dX6_read_25 : decode cX6_read 25 = .ok (.invokevirtual 82, 3) := dk_182 0 82 (dk_at dksX6_read_1 2 rfl rfl)
theorem dX6_read_28 : decode cX6_read 28 = .ok (.goto 16, 3) := dk_167 0 16 (dk_at dksX6_read_1 5 rfl rfl)
theorem dX6_read_31 : decode cX6_read 31 = .ok (.aload_n 3, 1) := dk_45 (dk_at dksX6_read_1 8 rfl rfl)
theorem dX6_read_32 : decode cX6_read 32 = .ok (.iload 4, 2) := dk_21 4 (dk_at dksX6_read_1 9 rfl rfl)
theorem dX6_read_34 : decode cX6_read 34 = .ok (.iload 4, 2) := dk_21 4 (dk_at dksX6_read_1 11 rfl rfl)
theorem dX6_read_36 : decode cX6_read 36 = .ok (.sipush 128, 3) := dk_17 0 128 (dk_at dksX6_read_1 13 rfl rfl)
theorem dX6_read_39 : decode cX6_read 39 = .ok (.iadd, 1) := dk_96 (dk_at dksX6_read_1 16 rfl rfl)
theorem dX6_read_40 : decode cX6_read 40 = .ok (.iconst (-1), 1) := dk_2 (dk_at dksX6_read_1 17 rfl rfl)
theorem dX6_read_41 : decode cX6_read 41 = .ok (.invokestatic 148, 3) := dk_184 0 148 (dk_at dksX6_read_1 18 rfl rfl)
theorem dX6_read_44 : decode cX6_read 44 = .ok (.return_, 1) := dk_177 (dk_at dksX6_read_1 21 rfl rfl)
abbrev cX6_writeRule : ByteArray := prog_2_method_22_code
def yX6_writeRule : MethodName := ⟨RX6, "writeRule", "(II)I"⟩
def dkwX6_writeRule_1 : List UInt8 := [184, 0, 176, 42, 27, 29, 42, 180, 0, 18, 3, 182, 0, 182, 29, 172]
abbrev dktX6_writeRule_1 : List UInt8 := dkwX6_writeRule_1 ++ []
def dkwX6_writeRule_0 : List UInt8 := [42, 27, 182, 0, 147, 62, 42, 28, 182, 0, 173, 42, 180, 0, 15, 3, 42, 180, 0, 18, 3, 17, 0, 128]
abbrev dktX6_writeRule_0 : List UInt8 := dkwX6_writeRule_0 ++ dktX6_writeRule_1
theorem dksX6_writeRule_0 : cX6_writeRule.data.toList.drop 0 = dktX6_writeRule_0 := by decide +kernel
theorem dksX6_writeRule_1 : cX6_writeRule.data.toList.drop 24 = dktX6_writeRule_1 := dk_seg dksX6_writeRule_0 24 rfl rfl
theorem dX6_writeRule_0 : decode cX6_writeRule 0 = .ok (.aload_n 0, 1) := dk_42 (dk_at dksX6_writeRule_0 0 rfl rfl)
theorem dX6_writeRule_1 : decode cX6_writeRule 1 = .ok (.iload_n 1, 1) := dk_27 (dk_at dksX6_writeRule_0 1 rfl rfl)
theorem dX6_writeRule_2 : decode cX6_writeRule 2 = .ok (.invokevirtual 147, 3) := dk_182 0 147 (dk_at dksX6_writeRule_0 2 rfl rfl)
theorem dX6_writeRule_5 : decode cX6_writeRule 5 = .ok (.istore_n 3, 1) := dk_62 (dk_at dksX6_writeRule_0 5 rfl rfl)
theorem dX6_writeRule_6 : decode cX6_writeRule 6 = .ok (.aload_n 0, 1) := dk_42 (dk_at dksX6_writeRule_0 6 rfl rfl)
theorem dX6_writeRule_7 : decode cX6_writeRule 7 = .ok (.iload_n 2, 1) := dk_28 (dk_at dksX6_writeRule_0 7 rfl rfl)
theorem dX6_writeRule_8 : decode cX6_writeRule 8 = .ok (.invokevirtual 173, 3) := dk_182 0 173 (dk_at dksX6_writeRule_0 8 rfl rfl)
theorem dX6_writeRule_11 : decode cX6_writeRule 11 = .ok (.aload_n 0, 1) := dk_42 (dk_at dksX6_writeRule_0 11 rfl rfl)
theorem dX6_writeRule_12 : decode cX6_writeRule 12 = .ok (.getfield 15, 3) := dk_180 0 15 (dk_at dksX6_writeRule_0 12 rfl rfl)
theorem dX6_writeRule_15 : decode cX6_writeRule 15 = .ok (.iconst 0, 1) := dk_3 (dk_at dksX6_writeRule_0 15 rfl rfl)
theorem dX6_writeRule_16 : decode cX6_writeRule 16 = .ok (.aload_n 0, 1) := dk_42 (dk_at dksX6_writeRule_0 16 rfl rfl)
theorem dX6_writeRule_17 : decode cX6_writeRule 17 = .ok (.getfield 18, 3) := dk_180 0 18 (dk_at dksX6_writeRule_0 17 rfl rfl)
theorem dX6_writeRule_20 : decode cX6_writeRule 20 = .ok (.iconst 0, 1) := dk_3 (dk_at dksX6_writeRule_0 20 rfl rfl)
theorem dX6_writeRule_21 : decode cX6_writeRule 21 = .ok (.sipush 128, 3) := dk_17 0 128 (dk_at dksX6_writeRule_0 21 rfl rfl)
theorem dX6_writeRule_24 : decode cX6_writeRule 24 = .ok (.invokestatic 176, 3) := dk_184 0 176 (dk_at dksX6_writeRule_1 0 rfl rfl)
theorem dX6_writeRule_27 : decode cX6_writeRule 27 = .ok (.aload_n 0, 1) := dk_42 (dk_at dksX6_writeRule_1 3 rfl rfl)
theorem dX6_writeRule_28 : decode cX6_writeRule 28 = .ok (.iload_n 1, 1) := dk_27 (dk_at dksX6_writeRule_1 4 rfl rfl)
theorem dX6_writeRule_29 : decode cX6_writeRule 29 = .ok (.iload_n 3, 1) := dk_29 (dk_at dksX6_writeRule_1 5 rfl rfl)
theorem dX6_writeRule_30 : decode cX6_writeRule 30 = .ok (.aload_n 0, 1) := dk_42 (dk_at dksX6_writeRule_1 6 rfl rfl)
theorem dX6_writeRule_31 : decode cX6_writeRule 31 = .ok (.getfield 18, 3) := dk_180 0 18 (dk_at dksX6_writeRule_1 7 rfl rfl)
theorem dX6_writeRule_34 : decode cX6_writeRule 34 = .ok (.iconst 0, 1) := dk_3 (dk_at dksX6_writeRule_1 10 rfl rfl)
theorem dX6_writeRule_35 : decode cX6_writeRule 35 = .ok (.invokevirtual 182, 3) := dk_182 0 182 (dk_at dksX6_writeRule_1 11 rfl rfl)
theorem dX6_writeRule_38 : decode cX6_writeRule 38 = .ok (.iload_n 3, 1) := dk_29 (dk_at dksX6_writeRule_1 14 rfl rfl)
theorem dX6_writeRule_39 : decode cX6_writeRule 39 = .ok (.ireturn, 1) := dk_172 (dk_at dksX6_writeRule_1 15 rfl rfl)
abbrev cX6_rule : ByteArray := prog_2_method_21_code
def yX6_rule : MethodName := ⟨RX6, "rule", "(I)V"⟩
def dkwX6_rule_1 : List UInt8 := [167, 255, 234, 177]
abbrev dktX6_rule_1 : List UInt8 := dkwX6_rule_1 ++ []
def dkwX6_rule_0 : List UInt8 := [3, 61, 28, 17, 0, 128, 162, 0, 21, 42, 180, 0, 15, 28, 27, 6, 28, 104, 96, 145, 84, 132, 2, 1]
abbrev dktX6_rule_0 : List UInt8 := dkwX6_rule_0 ++ dktX6_rule_1
theorem dksX6_rule_0 : cX6_rule.data.toList.drop 0 = dktX6_rule_0 := by decide +kernel
theorem dksX6_rule_1 : cX6_rule.data.toList.drop 24 = dktX6_rule_1 := dk_seg dksX6_rule_0 24 rfl rfl
theorem dX6_rule_0 : decode cX6_rule 0 = .ok (.iconst 0, 1) := dk_3 (dk_at dksX6_rule_0 0 rfl rfl)
theorem dX6_rule_1 : decode cX6_rule 1 = .ok (.istore_n 2, 1) := dk_61 (dk_at dksX6_rule_0 1 rfl rfl)
theorem dX6_rule_2 : decode cX6_rule 2 = .ok (.iload_n 2, 1) := dk_28 (dk_at dksX6_rule_0 2 rfl rfl)
theorem dX6_rule_3 : decode cX6_rule 3 = .ok (.sipush 128, 3) := dk_17 0 128 (dk_at dksX6_rule_0 3 rfl rfl)
theorem dX6_rule_6 : decode cX6_rule 6 = .ok (.if_icmp .ge 21, 3) := dk_162 0 21 (dk_at dksX6_rule_0 6 rfl rfl)
theorem dX6_rule_9 : decode cX6_rule 9 = .ok (.aload_n 0, 1) := dk_42 (dk_at dksX6_rule_0 9 rfl rfl)
theorem dX6_rule_10 : decode cX6_rule 10 = .ok (.getfield 15, 3) := dk_180 0 15 (dk_at dksX6_rule_0 10 rfl rfl)
theorem dX6_rule_13 : decode cX6_rule 13 = .ok (.iload_n 2, 1) := dk_28 (dk_at dksX6_rule_0 13 rfl rfl)
theorem dX6_rule_14 : decode cX6_rule 14 = .ok (.iload_n 1, 1) := dk_27 (dk_at dksX6_rule_0 14 rfl rfl)
theorem dX6_rule_15 : decode cX6_rule 15 = .ok (.iconst 3, 1) := dk_6 (dk_at dksX6_rule_0 15 rfl rfl)
theorem dX6_rule_16 : decode cX6_rule 16 = .ok (.iload_n 2, 1) := dk_28 (dk_at dksX6_rule_0 16 rfl rfl)
theorem dX6_rule_17 : decode cX6_rule 17 = .ok (.imul, 1) := dk_104 (dk_at dksX6_rule_0 17 rfl rfl)
theorem dX6_rule_18 : decode cX6_rule 18 = .ok (.iadd, 1) := dk_96 (dk_at dksX6_rule_0 18 rfl rfl)
theorem dX6_rule_19 : decode cX6_rule 19 = .ok (.i2b, 1) := dk_145 (dk_at dksX6_rule_0 19 rfl rfl)
theorem dX6_rule_20 : decode cX6_rule 20 = .ok (.bastore, 1) := dk_84 (dk_at dksX6_rule_0 20 rfl rfl)
theorem dX6_rule_21 : decode cX6_rule 21 = .ok (.iinc 2 1, 3) := dk_132 2 1 (dk_at dksX6_rule_0 21 rfl rfl)
theorem dX6_rule_24 : decode cX6_rule 24 = .ok (.goto (-22), 3) := dk_167 255 234 (dk_at dksX6_rule_1 0 rfl rfl)
theorem dX6_rule_27 : decode cX6_rule 27 = .ok (.return_, 1) := dk_177 (dk_at dksX6_rule_1 3 rfl rfl)
abbrev cX6_change : ByteArray := prog_2_method_20_code
def yX6_change : MethodName := ⟨RX6, "change", "(III)V"⟩
def dkwX6_change_8 : List UInt8 := [159, 0, 12, 42, 180, 0, 41, 21, 5, 16, 254, 79, 177]
abbrev dktX6_change_8 : List UInt8 := dkwX6_change_8 ++ []
def dkwX6_change_7 : List UInt8 := [180, 0, 32, 27, 21, 7, 79, 167, 0, 9, 42, 21, 7, 182, 0, 130, 167, 255, 136, 21, 5, 2]
abbrev dktX6_change_7 : List UInt8 := dkwX6_change_7 ++ dktX6_change_8
def dkwX6_change_6 : List UInt8 := [54, 6, 132, 8, 1, 167, 255, 212, 21, 6, 153, 0, 22, 42, 180, 0, 41, 21, 7, 27, 79, 42]
abbrev dktX6_change_6 : List UInt8 := dkwX6_change_6 ++ dktX6_change_7
def dkwX6_change_5 : List UInt8 := [104, 96, 182, 0, 173, 42, 180, 0, 25, 21, 7, 5, 21, 8, 96, 42, 180, 0, 15, 3, 182, 0, 65]
abbrev dktX6_change_5 : List UInt8 := dkwX6_change_5 ++ dktX6_change_6
def dkwX6_change_4 : List UInt8 := [182, 0, 162, 54, 6, 3, 54, 8, 21, 8, 28, 162, 0, 44, 21, 6, 153, 0, 39, 42, 29, 8, 21, 8]
abbrev dktX6_change_4 : List UInt8 := dkwX6_change_4 ++ dktX6_change_5
def dkwX6_change_3 : List UInt8 := [2, 160, 0, 13, 187, 0, 155, 89, 18, 157, 183, 0, 159, 191, 42, 21, 7, 27, 4, 28, 21, 4]
abbrev dktX6_change_3 : List UInt8 := dkwX6_change_3 ++ dktX6_change_4
def dkwX6_change_2 : List UInt8 := [42, 180, 0, 32, 27, 46, 54, 5, 3, 54, 6, 21, 6, 154, 0, 121, 42, 182, 0, 151, 54, 7, 21, 7]
abbrev dktX6_change_2 : List UInt8 := dkwX6_change_2 ++ dktX6_change_3
def dkwX6_change_1 : List UInt8 := [182, 0, 173, 21, 4, 42, 180, 0, 15, 3, 17, 0, 128, 184, 0, 61, 54, 4, 132, 5, 1, 167, 255, 222]
abbrev dktX6_change_1 : List UInt8 := dkwX6_change_1 ++ dktX6_change_2
def dkwX6_change_0 : List UInt8 := [42, 27, 182, 0, 166, 2, 54, 4, 3, 54, 5, 21, 5, 28, 162, 0, 34, 42, 29, 8, 21, 5, 104, 96]
abbrev dktX6_change_0 : List UInt8 := dkwX6_change_0 ++ dktX6_change_1
theorem dksX6_change_0 : cX6_change.data.toList.drop 0 = dktX6_change_0 := by decide +kernel
theorem dksX6_change_1 : cX6_change.data.toList.drop 24 = dktX6_change_1 := dk_seg dksX6_change_0 24 rfl rfl
theorem dksX6_change_2 : cX6_change.data.toList.drop 48 = dktX6_change_2 := dk_seg dksX6_change_1 24 rfl rfl
theorem dksX6_change_3 : cX6_change.data.toList.drop 72 = dktX6_change_3 := dk_seg dksX6_change_2 24 rfl rfl
theorem dksX6_change_4 : cX6_change.data.toList.drop 94 = dktX6_change_4 := dk_seg dksX6_change_3 22 rfl rfl
theorem dksX6_change_5 : cX6_change.data.toList.drop 118 = dktX6_change_5 := dk_seg dksX6_change_4 24 rfl rfl
theorem dksX6_change_6 : cX6_change.data.toList.drop 141 = dktX6_change_6 := dk_seg dksX6_change_5 23 rfl rfl
theorem dksX6_change_7 : cX6_change.data.toList.drop 163 = dktX6_change_7 := dk_seg dksX6_change_6 22 rfl rfl
theorem dksX6_change_8 : cX6_change.data.toList.drop 185 = dktX6_change_8 := dk_seg dksX6_change_7 22 rfl rfl
theorem dX6_change_0 : decode cX6_change 0 = .ok (.aload_n 0, 1) := dk_42 (dk_at dksX6_change_0 0 rfl rfl)
theorem dX6_change_1 : decode cX6_change 1 = .ok (.iload_n 1, 1) := dk_27 (dk_at dksX6_change_0 1 rfl rfl)
theorem dX6_change_2 : decode cX6_change 2 = .ok (.invokevirtual 166, 3) := dk_182 0 166 (dk_at dksX6_change_0 2 rfl rfl)
theorem dX6_change_5 : decode cX6_change 5 = .ok (.iconst (-1), 1) := dk_2 (dk_at dksX6_change_0 5 rfl rfl)
theorem dX6_change_6 : decode cX6_change 6 = .ok (.istore 4, 2) := dk_54 4 (dk_at dksX6_change_0 6 rfl rfl)
theorem dX6_change_8 : decode cX6_change 8 = .ok (.iconst 0, 1) := dk_3 (dk_at dksX6_change_0 8 rfl rfl)
theorem dX6_change_9 : decode cX6_change 9 = .ok (.istore 5, 2) := dk_54 5 (dk_at dksX6_change_0 9 rfl rfl)
theorem dX6_change_11 : decode cX6_change 11 = .ok (.iload 5, 2) := dk_21 5 (dk_at dksX6_change_0 11 rfl rfl)
theorem dX6_change_13 : decode cX6_change 13 = .ok (.iload_n 2, 1) := dk_28 (dk_at dksX6_change_0 13 rfl rfl)
theorem dX6_change_14 : decode cX6_change 14 = .ok (.if_icmp .ge 34, 3) := dk_162 0 34 (dk_at dksX6_change_0 14 rfl rfl)
theorem dX6_change_17 : decode cX6_change 17 = .ok (.aload_n 0, 1) := dk_42 (dk_at dksX6_change_0 17 rfl rfl)
theorem dX6_change_18 : decode cX6_change 18 = .ok (.iload_n 3, 1) := dk_29 (dk_at dksX6_change_0 18 rfl rfl)
theorem dX6_change_19 : decode cX6_change 19 = .ok (.iconst 5, 1) := dk_8 (dk_at dksX6_change_0 19 rfl rfl)
theorem dX6_change_20 : decode cX6_change 20 = .ok (.iload 5, 2) := dk_21 5 (dk_at dksX6_change_0 20 rfl rfl)
theorem dX6_change_22 : decode cX6_change 22 = .ok (.imul, 1) := dk_104 (dk_at dksX6_change_0 22 rfl rfl)
theorem dX6_change_23 : decode cX6_change 23 = .ok (.iadd, 1) := dk_96 (dk_at dksX6_change_0 23 rfl rfl)
theorem dX6_change_24 : decode cX6_change 24 = .ok (.invokevirtual 173, 3) := dk_182 0 173 (dk_at dksX6_change_1 0 rfl rfl)
theorem dX6_change_27 : decode cX6_change 27 = .ok (.iload 4, 2) := dk_21 4 (dk_at dksX6_change_1 3 rfl rfl)
theorem dX6_change_29 : decode cX6_change 29 = .ok (.aload_n 0, 1) := dk_42 (dk_at dksX6_change_1 5 rfl rfl)
theorem dX6_change_30 : decode cX6_change 30 = .ok (.getfield 15, 3) := dk_180 0 15 (dk_at dksX6_change_1 6 rfl rfl)
theorem dX6_change_33 : decode cX6_change 33 = .ok (.iconst 0, 1) := dk_3 (dk_at dksX6_change_1 9 rfl rfl)
theorem dX6_change_34 : decode cX6_change 34 = .ok (.sipush 128, 3) := dk_17 0 128 (dk_at dksX6_change_1 10 rfl rfl)
theorem dX6_change_37 : decode cX6_change 37 = .ok (.invokestatic 61, 3) := dk_184 0 61 (dk_at dksX6_change_1 13 rfl rfl)
theorem dX6_change_40 : decode cX6_change 40 = .ok (.istore 4, 2) := dk_54 4 (dk_at dksX6_change_1 16 rfl rfl)
theorem dX6_change_42 : decode cX6_change 42 = .ok (.iinc 5 1, 3) := dk_132 5 1 (dk_at dksX6_change_1 18 rfl rfl)
theorem dX6_change_45 : decode cX6_change 45 = .ok (.goto (-34), 3) := dk_167 255 222 (dk_at dksX6_change_1 21 rfl rfl)
theorem dX6_change_48 : decode cX6_change 48 = .ok (.aload_n 0, 1) := dk_42 (dk_at dksX6_change_2 0 rfl rfl)
theorem dX6_change_49 : decode cX6_change 49 = .ok (.getfield 32, 3) := dk_180 0 32 (dk_at dksX6_change_2 1 rfl rfl)
theorem dX6_change_52 : decode cX6_change 52 = .ok (.iload_n 1, 1) := dk_27 (dk_at dksX6_change_2 4 rfl rfl)
theorem dX6_change_53 : decode cX6_change 53 = .ok (.iaload, 1) := dk_46 (dk_at dksX6_change_2 5 rfl rfl)
theorem dX6_change_54 : decode cX6_change 54 = .ok (.istore 5, 2) := dk_54 5 (dk_at dksX6_change_2 6 rfl rfl)
theorem dX6_change_56 : decode cX6_change 56 = .ok (.iconst 0, 1) := dk_3 (dk_at dksX6_change_2 8 rfl rfl)
theorem dX6_change_57 : decode cX6_change 57 = .ok (.istore 6, 2) := dk_54 6 (dk_at dksX6_change_2 9 rfl rfl)
theorem dX6_change_59 : decode cX6_change 59 = .ok (.iload 6, 2) := dk_21 6 (dk_at dksX6_change_2 11 rfl rfl)
theorem dX6_change_61 : decode cX6_change 61 = .ok (.ifCond .ne 121, 3) := dk_154 0 121 (dk_at dksX6_change_2 13 rfl rfl)
theorem dX6_change_64 : decode cX6_change 64 = .ok (.aload_n 0, 1) := dk_42 (dk_at dksX6_change_2 16 rfl rfl)
theorem dX6_change_65 : decode cX6_change 65 = .ok (.invokevirtual 151, 3) := dk_182 0 151 (dk_at dksX6_change_2 17 rfl rfl)
theorem dX6_change_68 : decode cX6_change 68 = .ok (.istore 7, 2) := dk_54 7 (dk_at dksX6_change_2 20 rfl rfl)
theorem dX6_change_70 : decode cX6_change 70 = .ok (.iload 7, 2) := dk_21 7 (dk_at dksX6_change_2 22 rfl rfl)
theorem dX6_change_72 : decode cX6_change 72 = .ok (.iconst (-1), 1) := dk_2 (dk_at dksX6_change_3 0 rfl rfl)
theorem dX6_change_73 : decode cX6_change 73 = .ok (.if_icmp .ne 13, 3) := dk_160 0 13 (dk_at dksX6_change_3 1 rfl rfl)
theorem dX6_change_76 : decode cX6_change 76 = .ok (.new 155, 3) := dk_187 0 155 (dk_at dksX6_change_3 4 rfl rfl)
theorem dX6_change_79 : decode cX6_change 79 = .ok (.dup, 1) := dk_89 (dk_at dksX6_change_3 7 rfl rfl)
theorem dX6_change_80 : decode cX6_change 80 = .ok (.ldc 157, 2) := dk_18 157 (dk_at dksX6_change_3 8 rfl rfl)
theorem dX6_change_82 : decode cX6_change 82 = .ok (.invokespecial 159, 3) := dk_183 0 159 (dk_at dksX6_change_3 10 rfl rfl)
theorem dX6_change_85 : decode cX6_change 85 = .ok (.athrow, 1) := dk_191 (dk_at dksX6_change_3 13 rfl rfl)
theorem dX6_change_86 : decode cX6_change 86 = .ok (.aload_n 0, 1) := dk_42 (dk_at dksX6_change_3 14 rfl rfl)
theorem dX6_change_87 : decode cX6_change 87 = .ok (.iload 7, 2) := dk_21 7 (dk_at dksX6_change_3 15 rfl rfl)
theorem dX6_change_89 : decode cX6_change 89 = .ok (.iload_n 1, 1) := dk_27 (dk_at dksX6_change_3 17 rfl rfl)
theorem dX6_change_90 : decode cX6_change 90 = .ok (.iconst 1, 1) := dk_4 (dk_at dksX6_change_3 18 rfl rfl)
theorem dX6_change_91 : decode cX6_change 91 = .ok (.iload_n 2, 1) := dk_28 (dk_at dksX6_change_3 19 rfl rfl)
theorem dX6_change_92 : decode cX6_change 92 = .ok (.iload 4, 2) := dk_21 4 (dk_at dksX6_change_3 20 rfl rfl)
theorem dX6_change_94 : decode cX6_change 94 = .ok (.invokevirtual 162, 3) := dk_182 0 162 (dk_at dksX6_change_4 0 rfl rfl)
theorem dX6_change_97 : decode cX6_change 97 = .ok (.istore 6, 2) := dk_54 6 (dk_at dksX6_change_4 3 rfl rfl)
theorem dX6_change_99 : decode cX6_change 99 = .ok (.iconst 0, 1) := dk_3 (dk_at dksX6_change_4 5 rfl rfl)
theorem dX6_change_100 : decode cX6_change 100 = .ok (.istore 8, 2) := dk_54 8 (dk_at dksX6_change_4 6 rfl rfl)
theorem dX6_change_102 : decode cX6_change 102 = .ok (.iload 8, 2) := dk_21 8 (dk_at dksX6_change_4 8 rfl rfl)
theorem dX6_change_104 : decode cX6_change 104 = .ok (.iload_n 2, 1) := dk_28 (dk_at dksX6_change_4 10 rfl rfl)
theorem dX6_change_105 : decode cX6_change 105 = .ok (.if_icmp .ge 44, 3) := dk_162 0 44 (dk_at dksX6_change_4 11 rfl rfl)
theorem dX6_change_108 : decode cX6_change 108 = .ok (.iload 6, 2) := dk_21 6 (dk_at dksX6_change_4 14 rfl rfl)
theorem dX6_change_110 : decode cX6_change 110 = .ok (.ifCond .eq 39, 3) := dk_153 0 39 (dk_at dksX6_change_4 16 rfl rfl)
theorem dX6_change_113 : decode cX6_change 113 = .ok (.aload_n 0, 1) := dk_42 (dk_at dksX6_change_4 19 rfl rfl)
theorem dX6_change_114 : decode cX6_change 114 = .ok (.iload_n 3, 1) := dk_29 (dk_at dksX6_change_4 20 rfl rfl)
theorem dX6_change_115 : decode cX6_change 115 = .ok (.iconst 5, 1) := dk_8 (dk_at dksX6_change_4 21 rfl rfl)
theorem dX6_change_116 : decode cX6_change 116 = .ok (.iload 8, 2) := dk_21 8 (dk_at dksX6_change_4 22 rfl rfl)
theorem dX6_change_118 : decode cX6_change 118 = .ok (.imul, 1) := dk_104 (dk_at dksX6_change_5 0 rfl rfl)
theorem dX6_change_119 : decode cX6_change 119 = .ok (.iadd, 1) := dk_96 (dk_at dksX6_change_5 1 rfl rfl)
theorem dX6_change_120 : decode cX6_change 120 = .ok (.invokevirtual 173, 3) := dk_182 0 173 (dk_at dksX6_change_5 2 rfl rfl)
theorem dX6_change_123 : decode cX6_change 123 = .ok (.aload_n 0, 1) := dk_42 (dk_at dksX6_change_5 5 rfl rfl)
theorem dX6_change_124 : decode cX6_change 124 = .ok (.getfield 25, 3) := dk_180 0 25 (dk_at dksX6_change_5 6 rfl rfl)
theorem dX6_change_127 : decode cX6_change 127 = .ok (.iload 7, 2) := dk_21 7 (dk_at dksX6_change_5 9 rfl rfl)
theorem dX6_change_129 : decode cX6_change 129 = .ok (.iconst 2, 1) := dk_5 (dk_at dksX6_change_5 11 rfl rfl)
theorem dX6_change_130 : decode cX6_change 130 = .ok (.iload 8, 2) := dk_21 8 (dk_at dksX6_change_5 12 rfl rfl)
theorem dX6_change_132 : decode cX6_change 132 = .ok (.iadd, 1) := dk_96 (dk_at dksX6_change_5 14 rfl rfl)
theorem dX6_change_133 : decode cX6_change 133 = .ok (.aload_n 0, 1) := dk_42 (dk_at dksX6_change_5 15 rfl rfl)
theorem dX6_change_134 : decode cX6_change 134 = .ok (.getfield 15, 3) := dk_180 0 15 (dk_at dksX6_change_5 16 rfl rfl)
theorem dX6_change_137 : decode cX6_change 137 = .ok (.iconst 0, 1) := dk_3 (dk_at dksX6_change_5 19 rfl rfl)
theorem dX6_change_138 : decode cX6_change 138 = .ok (.invokevirtual 65, 3) := dk_182 0 65 (dk_at dksX6_change_5 20 rfl rfl)
theorem dX6_change_141 : decode cX6_change 141 = .ok (.istore 6, 2) := dk_54 6 (dk_at dksX6_change_6 0 rfl rfl)
theorem dX6_change_143 : decode cX6_change 143 = .ok (.iinc 8 1, 3) := dk_132 8 1 (dk_at dksX6_change_6 2 rfl rfl)
theorem dX6_change_146 : decode cX6_change 146 = .ok (.goto (-44), 3) := dk_167 255 212 (dk_at dksX6_change_6 5 rfl rfl)
theorem dX6_change_149 : decode cX6_change 149 = .ok (.iload 6, 2) := dk_21 6 (dk_at dksX6_change_6 8 rfl rfl)
theorem dX6_change_151 : decode cX6_change 151 = .ok (.ifCond .eq 22, 3) := dk_153 0 22 (dk_at dksX6_change_6 10 rfl rfl)
theorem dX6_change_154 : decode cX6_change 154 = .ok (.aload_n 0, 1) := dk_42 (dk_at dksX6_change_6 13 rfl rfl)
theorem dX6_change_155 : decode cX6_change 155 = .ok (.getfield 41, 3) := dk_180 0 41 (dk_at dksX6_change_6 14 rfl rfl)
theorem dX6_change_158 : decode cX6_change 158 = .ok (.iload 7, 2) := dk_21 7 (dk_at dksX6_change_6 17 rfl rfl)
theorem dX6_change_160 : decode cX6_change 160 = .ok (.iload_n 1, 1) := dk_27 (dk_at dksX6_change_6 19 rfl rfl)
theorem dX6_change_161 : decode cX6_change 161 = .ok (.iastore, 1) := dk_79 (dk_at dksX6_change_6 20 rfl rfl)
theorem dX6_change_162 : decode cX6_change 162 = .ok (.aload_n 0, 1) := dk_42 (dk_at dksX6_change_6 21 rfl rfl)
theorem dX6_change_163 : decode cX6_change 163 = .ok (.getfield 32, 3) := dk_180 0 32 (dk_at dksX6_change_7 0 rfl rfl)
theorem dX6_change_166 : decode cX6_change 166 = .ok (.iload_n 1, 1) := dk_27 (dk_at dksX6_change_7 3 rfl rfl)
theorem dX6_change_167 : decode cX6_change 167 = .ok (.iload 7, 2) := dk_21 7 (dk_at dksX6_change_7 4 rfl rfl)
theorem dX6_change_169 : decode cX6_change 169 = .ok (.iastore, 1) := dk_79 (dk_at dksX6_change_7 6 rfl rfl)
theorem dX6_change_170 : decode cX6_change 170 = .ok (.goto 9, 3) := dk_167 0 9 (dk_at dksX6_change_7 7 rfl rfl)
theorem dX6_change_173 : decode cX6_change 173 = .ok (.aload_n 0, 1) := dk_42 (dk_at dksX6_change_7 10 rfl rfl)
theorem dX6_change_174 : decode cX6_change 174 = .ok (.iload 7, 2) := dk_21 7 (dk_at dksX6_change_7 11 rfl rfl)
theorem dX6_change_176 : decode cX6_change 176 = .ok (.invokevirtual 130, 3) := dk_182 0 130 (dk_at dksX6_change_7 13 rfl rfl)
theorem dX6_change_179 : decode cX6_change 179 = .ok (.goto (-120), 3) := dk_167 255 136 (dk_at dksX6_change_7 16 rfl rfl)
theorem dX6_change_182 : decode cX6_change 182 = .ok (.iload 5, 2) := dk_21 5 (dk_at dksX6_change_7 19 rfl rfl)
theorem dX6_change_184 : decode cX6_change 184 = .ok (.iconst (-1), 1) := dk_2 (dk_at dksX6_change_7 21 rfl rfl)
theorem dX6_change_185 : decode cX6_change 185 = .ok (.if_icmp .eq 12, 3) := dk_159 0 12 (dk_at dksX6_change_8 0 rfl rfl)
theorem dX6_change_188 : decode cX6_change 188 = .ok (.aload_n 0, 1) := dk_42 (dk_at dksX6_change_8 3 rfl rfl)
theorem dX6_change_189 : decode cX6_change 189 = .ok (.getfield 41, 3) := dk_180 0 41 (dk_at dksX6_change_8 4 rfl rfl)
theorem dX6_change_192 : decode cX6_change 192 = .ok (.iload 5, 2) := dk_21 5 (dk_at dksX6_change_8 7 rfl rfl)
theorem dX6_change_194 : decode cX6_change 194 = .ok (.bipush (-2), 2) := dk_16 254 (dk_at dksX6_change_8 9 rfl rfl)
theorem dX6_change_196 : decode cX6_change 196 = .ok (.iastore, 1) := dk_79 (dk_at dksX6_change_8 11 rfl rfl)
theorem dX6_change_197 : decode cX6_change 197 = .ok (.return_, 1) := dk_177 (dk_at dksX6_change_8 12 rfl rfl)
abbrev cX6_attach : ByteArray := prog_2_method_30_code
def yX6_attach : MethodName := ⟨RX6, "attach", "()V"⟩
def dkwX6_attach_11 : List UInt8 := [180, 0, 41, 21, 4, 16, 254, 79, 132, 4, 1, 167, 255, 113, 177]
abbrev dktX6_attach_11 : List UInt8 := dkwX6_attach_11 ++ []
def dkwX6_attach_10 : List UInt8 := [153, 0, 21, 42, 21, 4, 182, 0, 219, 153, 0, 12, 42, 21, 4, 182, 0, 222, 167, 0, 12, 42]
abbrev dktX6_attach_10 : List UInt8 := dkwX6_attach_10 ++ dktX6_attach_11
def dkwX6_attach_9 : List UInt8 := [21, 4, 182, 0, 78, 4, 160, 0, 14, 42, 180, 0, 41, 21, 4, 2, 79, 167, 0, 35, 21, 5]
abbrev dktX6_attach_9 : List UInt8 := dkwX6_attach_9 ++ dktX6_attach_10
def dkwX6_attach_8 : List UInt8 := [153, 0, 15, 42, 180, 0, 41, 21, 4, 16, 253, 79, 167, 0, 64, 21, 5, 153, 0, 27, 42, 180, 0, 25]
abbrev dktX6_attach_8 : List UInt8 := dkwX6_attach_8 ++ dktX6_attach_9
def dkwX6_attach_7 : List UInt8 := [154, 0, 7, 3, 167, 0, 8, 31, 29, 133, 109, 136, 79, 42, 180, 0, 25, 21, 4, 182, 0, 213]
abbrev dktX6_attach_7 : List UInt8 := dkwX6_attach_7 ++ dktX6_attach_8
def dkwX6_attach_6 : List UInt8 := [159, 0, 7, 4, 167, 0, 4, 3, 54, 5, 21, 5, 154, 0, 23, 42, 180, 0, 44, 21, 4, 29]
abbrev dktX6_attach_6 : List UInt8 := dkwX6_attach_6 ++ dktX6_attach_7
def dkwX6_attach_5 : List UInt8 := [54, 4, 21, 4, 42, 180, 0, 25, 180, 0, 36, 162, 0, 137, 42, 180, 0, 44, 21, 4, 46, 2]
abbrev dktX6_attach_5 : List UInt8 := dkwX6_attach_5 ++ dktX6_attach_6
def dkwX6_attach_4 : List UInt8 := [180, 0, 44, 21, 4, 46, 2, 160, 0, 7, 3, 167, 0, 4, 4, 96, 62, 132, 4, 1, 167, 255, 167, 3]
abbrev dktX6_attach_4 : List UInt8 := dkwX6_attach_4 ++ dktX6_attach_5
def dkwX6_attach_3 : List UInt8 := [21, 4, 46, 2, 160, 0, 7, 9, 167, 0, 11, 42, 180, 0, 44, 21, 4, 46, 133, 97, 64, 29, 42]
abbrev dktX6_attach_3 : List UInt8 := dkwX6_attach_3 ++ dktX6_attach_4
def dkwX6_attach_2 : List UInt8 := [21, 4, 182, 0, 213, 153, 0, 7, 2, 167, 0, 9, 42, 21, 4, 182, 0, 216, 79, 31, 42, 180, 0, 44]
abbrev dktX6_attach_2 : List UInt8 := dkwX6_attach_2 ++ dktX6_attach_3
def dkwX6_attach_1 : List UInt8 := [54, 4, 21, 4, 42, 180, 0, 25, 180, 0, 36, 162, 0, 83, 42, 180, 0, 44, 21, 4, 42, 180, 0, 25]
abbrev dktX6_attach_1 : List UInt8 := dkwX6_attach_1 ++ dktX6_attach_2
def dkwX6_attach_0 : List UInt8 := [42, 180, 0, 32, 2, 184, 0, 114, 42, 2, 181, 0, 21, 42, 9, 181, 0, 70, 9, 64, 3, 62, 3]
abbrev dktX6_attach_0 : List UInt8 := dkwX6_attach_0 ++ dktX6_attach_1
theorem dksX6_attach_0 : cX6_attach.data.toList.drop 0 = dktX6_attach_0 := by decide +kernel
theorem dksX6_attach_1 : cX6_attach.data.toList.drop 23 = dktX6_attach_1 := dk_seg dksX6_attach_0 23 rfl rfl
theorem dksX6_attach_2 : cX6_attach.data.toList.drop 47 = dktX6_attach_2 := dk_seg dksX6_attach_1 24 rfl rfl
theorem dksX6_attach_3 : cX6_attach.data.toList.drop 71 = dktX6_attach_3 := dk_seg dksX6_attach_2 24 rfl rfl
theorem dksX6_attach_4 : cX6_attach.data.toList.drop 94 = dktX6_attach_4 := dk_seg dksX6_attach_3 23 rfl rfl
theorem dksX6_attach_5 : cX6_attach.data.toList.drop 118 = dktX6_attach_5 := dk_seg dksX6_attach_4 24 rfl rfl
theorem dksX6_attach_6 : cX6_attach.data.toList.drop 140 = dktX6_attach_6 := dk_seg dksX6_attach_5 22 rfl rfl
theorem dksX6_attach_7 : cX6_attach.data.toList.drop 162 = dktX6_attach_7 := dk_seg dksX6_attach_6 22 rfl rfl
theorem dksX6_attach_8 : cX6_attach.data.toList.drop 184 = dktX6_attach_8 := dk_seg dksX6_attach_7 22 rfl rfl
theorem dksX6_attach_9 : cX6_attach.data.toList.drop 208 = dktX6_attach_9 := dk_seg dksX6_attach_8 24 rfl rfl
theorem dksX6_attach_10 : cX6_attach.data.toList.drop 230 = dktX6_attach_10 := dk_seg dksX6_attach_9 22 rfl rfl
theorem dksX6_attach_11 : cX6_attach.data.toList.drop 252 = dktX6_attach_11 := dk_seg dksX6_attach_10 22 rfl rfl
theorem dX6_attach_0 : decode cX6_attach 0 = .ok (.aload_n 0, 1) := dk_42 (dk_at dksX6_attach_0 0 rfl rfl)
theorem dX6_attach_1 : decode cX6_attach 1 = .ok (.getfield 32, 3) := dk_180 0 32 (dk_at dksX6_attach_0 1 rfl rfl)
theorem dX6_attach_4 : decode cX6_attach 4 = .ok (.iconst (-1), 1) := dk_2 (dk_at dksX6_attach_0 4 rfl rfl)
theorem dX6_attach_5 : decode cX6_attach 5 = .ok (.invokestatic 114, 3) := dk_184 0 114 (dk_at dksX6_attach_0 5 rfl rfl)
theorem dX6_attach_8 : decode cX6_attach 8 = .ok (.aload_n 0, 1) := dk_42 (dk_at dksX6_attach_0 8 rfl rfl)
theorem dX6_attach_9 : decode cX6_attach 9 = .ok (.iconst (-1), 1) := dk_2 (dk_at dksX6_attach_0 9 rfl rfl)
theorem dX6_attach_10 : decode cX6_attach 10 = .ok (.putfield 21, 3) := dk_181 0 21 (dk_at dksX6_attach_0 10 rfl rfl)
theorem dX6_attach_13 : decode cX6_attach 13 = .ok (.aload_n 0, 1) := dk_42 (dk_at dksX6_attach_0 13 rfl rfl)
theorem dX6_attach_14 : decode cX6_attach 14 = .ok (.lconst 0, 1) := dk_9 (dk_at dksX6_attach_0 14 rfl rfl)
theorem dX6_attach_15 : decode cX6_attach 15 = .ok (.putfield 70, 3) := dk_181 0 70 (dk_at dksX6_attach_0 15 rfl rfl)
theorem dX6_attach_18 : decode cX6_attach 18 = .ok (.lconst 0, 1) := dk_9 (dk_at dksX6_attach_0 18 rfl rfl)
theorem dX6_attach_19 : decode cX6_attach 19 = .ok (.lstore_n 1, 1) := dk_64 (dk_at dksX6_attach_0 19 rfl rfl)
theorem dX6_attach_20 : decode cX6_attach 20 = .ok (.iconst 0, 1) := dk_3 (dk_at dksX6_attach_0 20 rfl rfl)
theorem dX6_attach_21 : decode cX6_attach 21 = .ok (.istore_n 3, 1) := dk_62 (dk_at dksX6_attach_0 21 rfl rfl)
theorem dX6_attach_22 : decode cX6_attach 22 = .ok (.iconst 0, 1) := dk_3 (dk_at dksX6_attach_0 22 rfl rfl)
theorem dX6_attach_23 : decode cX6_attach 23 = .ok (.istore 4, 2) := dk_54 4 (dk_at dksX6_attach_1 0 rfl rfl)
theorem dX6_attach_25 : decode cX6_attach 25 = .ok (.iload 4, 2) := dk_21 4 (dk_at dksX6_attach_1 2 rfl rfl)
theorem dX6_attach_27 : decode cX6_attach 27 = .ok (.aload_n 0, 1) := dk_42 (dk_at dksX6_attach_1 4 rfl rfl)
theorem dX6_attach_28 : decode cX6_attach 28 = .ok (.getfield 25, 3) := dk_180 0 25 (dk_at dksX6_attach_1 5 rfl rfl)
theorem dX6_attach_31 : decode cX6_attach 31 = .ok (.getfield 36, 3) := dk_180 0 36 (dk_at dksX6_attach_1 8 rfl rfl)
theorem dX6_attach_34 : decode cX6_attach 34 = .ok (.if_icmp .ge 83, 3) := dk_162 0 83 (dk_at dksX6_attach_1 11 rfl rfl)
theorem dX6_attach_37 : decode cX6_attach 37 = .ok (.aload_n 0, 1) := dk_42 (dk_at dksX6_attach_1 14 rfl rfl)
theorem dX6_attach_38 : decode cX6_attach 38 = .ok (.getfield 44, 3) := dk_180 0 44 (dk_at dksX6_attach_1 15 rfl rfl)
theorem dX6_attach_41 : decode cX6_attach 41 = .ok (.iload 4, 2) := dk_21 4 (dk_at dksX6_attach_1 18 rfl rfl)
theorem dX6_attach_43 : decode cX6_attach 43 = .ok (.aload_n 0, 1) := dk_42 (dk_at dksX6_attach_1 20 rfl rfl)
theorem dX6_attach_44 : decode cX6_attach 44 = .ok (.getfield 25, 3) := dk_180 0 25 (dk_at dksX6_attach_1 21 rfl rfl)
theorem dX6_attach_47 : decode cX6_attach 47 = .ok (.iload 4, 2) := dk_21 4 (dk_at dksX6_attach_2 0 rfl rfl)
theorem dX6_attach_49 : decode cX6_attach 49 = .ok (.invokevirtual 213, 3) := dk_182 0 213 (dk_at dksX6_attach_2 2 rfl rfl)
theorem dX6_attach_52 : decode cX6_attach 52 = .ok (.ifCond .eq 7, 3) := dk_153 0 7 (dk_at dksX6_attach_2 5 rfl rfl)
theorem dX6_attach_55 : decode cX6_attach 55 = .ok (.iconst (-1), 1) := dk_2 (dk_at dksX6_attach_2 8 rfl rfl)
theorem dX6_attach_56 : decode cX6_attach 56 = .ok (.goto 9, 3) := dk_167 0 9 (dk_at dksX6_attach_2 9 rfl rfl)
theorem dX6_attach_59 : decode cX6_attach 59 = .ok (.aload_n 0, 1) := dk_42 (dk_at dksX6_attach_2 12 rfl rfl)
theorem dX6_attach_60 : decode cX6_attach 60 = .ok (.iload 4, 2) := dk_21 4 (dk_at dksX6_attach_2 13 rfl rfl)
theorem dX6_attach_62 : decode cX6_attach 62 = .ok (.invokevirtual 216, 3) := dk_182 0 216 (dk_at dksX6_attach_2 15 rfl rfl)
theorem dX6_attach_65 : decode cX6_attach 65 = .ok (.iastore, 1) := dk_79 (dk_at dksX6_attach_2 18 rfl rfl)
theorem dX6_attach_66 : decode cX6_attach 66 = .ok (.lload_n 1, 1) := dk_31 (dk_at dksX6_attach_2 19 rfl rfl)
theorem dX6_attach_67 : decode cX6_attach 67 = .ok (.aload_n 0, 1) := dk_42 (dk_at dksX6_attach_2 20 rfl rfl)
theorem dX6_attach_68 : decode cX6_attach 68 = .ok (.getfield 44, 3) := dk_180 0 44 (dk_at dksX6_attach_2 21 rfl rfl)
theorem dX6_attach_71 : decode cX6_attach 71 = .ok (.iload 4, 2) := dk_21 4 (dk_at dksX6_attach_3 0 rfl rfl)
theorem dX6_attach_73 : decode cX6_attach 73 = .ok (.iaload, 1) := dk_46 (dk_at dksX6_attach_3 2 rfl rfl)
theorem dX6_attach_74 : decode cX6_attach 74 = .ok (.iconst (-1), 1) := dk_2 (dk_at dksX6_attach_3 3 rfl rfl)
theorem dX6_attach_75 : decode cX6_attach 75 = .ok (.if_icmp .ne 7, 3) := dk_160 0 7 (dk_at dksX6_attach_3 4 rfl rfl)
theorem dX6_attach_78 : decode cX6_attach 78 = .ok (.lconst 0, 1) := dk_9 (dk_at dksX6_attach_3 7 rfl rfl)
theorem dX6_attach_79 : decode cX6_attach 79 = .ok (.goto 11, 3) := dk_167 0 11 (dk_at dksX6_attach_3 8 rfl rfl)
theorem dX6_attach_82 : decode cX6_attach 82 = .ok (.aload_n 0, 1) := dk_42 (dk_at dksX6_attach_3 11 rfl rfl)
theorem dX6_attach_83 : decode cX6_attach 83 = .ok (.getfield 44, 3) := dk_180 0 44 (dk_at dksX6_attach_3 12 rfl rfl)
theorem dX6_attach_86 : decode cX6_attach 86 = .ok (.iload 4, 2) := dk_21 4 (dk_at dksX6_attach_3 15 rfl rfl)
theorem dX6_attach_88 : decode cX6_attach 88 = .ok (.iaload, 1) := dk_46 (dk_at dksX6_attach_3 17 rfl rfl)
theorem dX6_attach_89 : decode cX6_attach 89 = .ok (.i2l, 1) := dk_133 (dk_at dksX6_attach_3 18 rfl rfl)
theorem dX6_attach_90 : decode cX6_attach 90 = .ok (.ladd, 1) := dk_97 (dk_at dksX6_attach_3 19 rfl rfl)
theorem dX6_attach_91 : decode cX6_attach 91 = .ok (.lstore_n 1, 1) := dk_64 (dk_at dksX6_attach_3 20 rfl rfl)
theorem dX6_attach_92 : decode cX6_attach 92 = .ok (.iload_n 3, 1) := dk_29 (dk_at dksX6_attach_3 21 rfl rfl)
theorem dX6_attach_93 : decode cX6_attach 93 = .ok (.aload_n 0, 1) := dk_42 (dk_at dksX6_attach_3 22 rfl rfl)
theorem dX6_attach_94 : decode cX6_attach 94 = .ok (.getfield 44, 3) := dk_180 0 44 (dk_at dksX6_attach_4 0 rfl rfl)
theorem dX6_attach_97 : decode cX6_attach 97 = .ok (.iload 4, 2) := dk_21 4 (dk_at dksX6_attach_4 3 rfl rfl)
theorem dX6_attach_99 : decode cX6_attach 99 = .ok (.iaload, 1) := dk_46 (dk_at dksX6_attach_4 5 rfl rfl)
theorem dX6_attach_100 : decode cX6_attach 100 = .ok (.iconst (-1), 1) := dk_2 (dk_at dksX6_attach_4 6 rfl rfl)
theorem dX6_attach_101 : decode cX6_attach 101 = .ok (.if_icmp .ne 7, 3) := dk_160 0 7 (dk_at dksX6_attach_4 7 rfl rfl)
theorem dX6_attach_104 : decode cX6_attach 104 = .ok (.iconst 0, 1) := dk_3 (dk_at dksX6_attach_4 10 rfl rfl)
theorem dX6_attach_105 : decode cX6_attach 105 = .ok (.goto 4, 3) := dk_167 0 4 (dk_at dksX6_attach_4 11 rfl rfl)
theorem dX6_attach_108 : decode cX6_attach 108 = .ok (.iconst 1, 1) := dk_4 (dk_at dksX6_attach_4 14 rfl rfl)
theorem dX6_attach_109 : decode cX6_attach 109 = .ok (.iadd, 1) := dk_96 (dk_at dksX6_attach_4 15 rfl rfl)
theorem dX6_attach_110 : decode cX6_attach 110 = .ok (.istore_n 3, 1) := dk_62 (dk_at dksX6_attach_4 16 rfl rfl)
theorem dX6_attach_111 : decode cX6_attach 111 = .ok (.iinc 4 1, 3) := dk_132 4 1 (dk_at dksX6_attach_4 17 rfl rfl)
theorem dX6_attach_114 : decode cX6_attach 114 = .ok (.goto (-89), 3) := dk_167 255 167 (dk_at dksX6_attach_4 20 rfl rfl)
theorem dX6_attach_117 : decode cX6_attach 117 = .ok (.iconst 0, 1) := dk_3 (dk_at dksX6_attach_4 23 rfl rfl)
theorem dX6_attach_118 : decode cX6_attach 118 = .ok (.istore 4, 2) := dk_54 4 (dk_at dksX6_attach_5 0 rfl rfl)
theorem dX6_attach_120 : decode cX6_attach 120 = .ok (.iload 4, 2) := dk_21 4 (dk_at dksX6_attach_5 2 rfl rfl)
theorem dX6_attach_122 : decode cX6_attach 122 = .ok (.aload_n 0, 1) := dk_42 (dk_at dksX6_attach_5 4 rfl rfl)
theorem dX6_attach_123 : decode cX6_attach 123 = .ok (.getfield 25, 3) := dk_180 0 25 (dk_at dksX6_attach_5 5 rfl rfl)
theorem dX6_attach_126 : decode cX6_attach 126 = .ok (.getfield 36, 3) := dk_180 0 36 (dk_at dksX6_attach_5 8 rfl rfl)
theorem dX6_attach_129 : decode cX6_attach 129 = .ok (.if_icmp .ge 137, 3) := dk_162 0 137 (dk_at dksX6_attach_5 11 rfl rfl)
theorem dX6_attach_132 : decode cX6_attach 132 = .ok (.aload_n 0, 1) := dk_42 (dk_at dksX6_attach_5 14 rfl rfl)
theorem dX6_attach_133 : decode cX6_attach 133 = .ok (.getfield 44, 3) := dk_180 0 44 (dk_at dksX6_attach_5 15 rfl rfl)
theorem dX6_attach_136 : decode cX6_attach 136 = .ok (.iload 4, 2) := dk_21 4 (dk_at dksX6_attach_5 18 rfl rfl)
theorem dX6_attach_138 : decode cX6_attach 138 = .ok (.iaload, 1) := dk_46 (dk_at dksX6_attach_5 20 rfl rfl)
theorem dX6_attach_139 : decode cX6_attach 139 = .ok (.iconst (-1), 1) := dk_2 (dk_at dksX6_attach_5 21 rfl rfl)
theorem dX6_attach_140 : decode cX6_attach 140 = .ok (.if_icmp .eq 7, 3) := dk_159 0 7 (dk_at dksX6_attach_6 0 rfl rfl)
theorem dX6_attach_143 : decode cX6_attach 143 = .ok (.iconst 1, 1) := dk_4 (dk_at dksX6_attach_6 3 rfl rfl)
theorem dX6_attach_144 : decode cX6_attach 144 = .ok (.goto 4, 3) := dk_167 0 4 (dk_at dksX6_attach_6 4 rfl rfl)
theorem dX6_attach_147 : decode cX6_attach 147 = .ok (.iconst 0, 1) := dk_3 (dk_at dksX6_attach_6 7 rfl rfl)
theorem dX6_attach_148 : decode cX6_attach 148 = .ok (.istore 5, 2) := dk_54 5 (dk_at dksX6_attach_6 8 rfl rfl)
theorem dX6_attach_150 : decode cX6_attach 150 = .ok (.iload 5, 2) := dk_21 5 (dk_at dksX6_attach_6 10 rfl rfl)
theorem dX6_attach_152 : decode cX6_attach 152 = .ok (.ifCond .ne 23, 3) := dk_154 0 23 (dk_at dksX6_attach_6 12 rfl rfl)
theorem dX6_attach_155 : decode cX6_attach 155 = .ok (.aload_n 0, 1) := dk_42 (dk_at dksX6_attach_6 15 rfl rfl)
theorem dX6_attach_156 : decode cX6_attach 156 = .ok (.getfield 44, 3) := dk_180 0 44 (dk_at dksX6_attach_6 16 rfl rfl)
theorem dX6_attach_159 : decode cX6_attach 159 = .ok (.iload 4, 2) := dk_21 4 (dk_at dksX6_attach_6 19 rfl rfl)
theorem dX6_attach_161 : decode cX6_attach 161 = .ok (.iload_n 3, 1) := dk_29 (dk_at dksX6_attach_6 21 rfl rfl)
theorem dX6_attach_162 : decode cX6_attach 162 = .ok (.ifCond .ne 7, 3) := dk_154 0 7 (dk_at dksX6_attach_7 0 rfl rfl)
theorem dX6_attach_165 : decode cX6_attach 165 = .ok (.iconst 0, 1) := dk_3 (dk_at dksX6_attach_7 3 rfl rfl)
theorem dX6_attach_166 : decode cX6_attach 166 = .ok (.goto 8, 3) := dk_167 0 8 (dk_at dksX6_attach_7 4 rfl rfl)
theorem dX6_attach_169 : decode cX6_attach 169 = .ok (.lload_n 1, 1) := dk_31 (dk_at dksX6_attach_7 7 rfl rfl)
theorem dX6_attach_170 : decode cX6_attach 170 = .ok (.iload_n 3, 1) := dk_29 (dk_at dksX6_attach_7 8 rfl rfl)
theorem dX6_attach_171 : decode cX6_attach 171 = .ok (.i2l, 1) := dk_133 (dk_at dksX6_attach_7 9 rfl rfl)
theorem dX6_attach_172 : decode cX6_attach 172 = .ok (.ldiv, 1) := dk_109 (dk_at dksX6_attach_7 10 rfl rfl)
theorem dX6_attach_173 : decode cX6_attach 173 = .ok (.l2i, 1) := dk_136 (dk_at dksX6_attach_7 11 rfl rfl)
theorem dX6_attach_174 : decode cX6_attach 174 = .ok (.iastore, 1) := dk_79 (dk_at dksX6_attach_7 12 rfl rfl)
theorem dX6_attach_175 : decode cX6_attach 175 = .ok (.aload_n 0, 1) := dk_42 (dk_at dksX6_attach_7 13 rfl rfl)
theorem dX6_attach_176 : decode cX6_attach 176 = .ok (.getfield 25, 3) := dk_180 0 25 (dk_at dksX6_attach_7 14 rfl rfl)
theorem dX6_attach_179 : decode cX6_attach 179 = .ok (.iload 4, 2) := dk_21 4 (dk_at dksX6_attach_7 17 rfl rfl)
theorem dX6_attach_181 : decode cX6_attach 181 = .ok (.invokevirtual 213, 3) := dk_182 0 213 (dk_at dksX6_attach_7 19 rfl rfl)
theorem dX6_attach_184 : decode cX6_attach 184 = .ok (.ifCond .eq 15, 3) := dk_153 0 15 (dk_at dksX6_attach_8 0 rfl rfl)
theorem dX6_attach_187 : decode cX6_attach 187 = .ok (.aload_n 0, 1) := dk_42 (dk_at dksX6_attach_8 3 rfl rfl)
theorem dX6_attach_188 : decode cX6_attach 188 = .ok (.getfield 41, 3) := dk_180 0 41 (dk_at dksX6_attach_8 4 rfl rfl)
theorem dX6_attach_191 : decode cX6_attach 191 = .ok (.iload 4, 2) := dk_21 4 (dk_at dksX6_attach_8 7 rfl rfl)
theorem dX6_attach_193 : decode cX6_attach 193 = .ok (.bipush (-3), 2) := dk_16 253 (dk_at dksX6_attach_8 9 rfl rfl)
theorem dX6_attach_195 : decode cX6_attach 195 = .ok (.iastore, 1) := dk_79 (dk_at dksX6_attach_8 11 rfl rfl)
theorem dX6_attach_196 : decode cX6_attach 196 = .ok (.goto 64, 3) := dk_167 0 64 (dk_at dksX6_attach_8 12 rfl rfl)
theorem dX6_attach_199 : decode cX6_attach 199 = .ok (.iload 5, 2) := dk_21 5 (dk_at dksX6_attach_8 15 rfl rfl)
theorem dX6_attach_201 : decode cX6_attach 201 = .ok (.ifCond .eq 27, 3) := dk_153 0 27 (dk_at dksX6_attach_8 17 rfl rfl)
theorem dX6_attach_204 : decode cX6_attach 204 = .ok (.aload_n 0, 1) := dk_42 (dk_at dksX6_attach_8 20 rfl rfl)
theorem dX6_attach_205 : decode cX6_attach 205 = .ok (.getfield 25, 3) := dk_180 0 25 (dk_at dksX6_attach_8 21 rfl rfl)
theorem dX6_attach_208 : decode cX6_attach 208 = .ok (.iload 4, 2) := dk_21 4 (dk_at dksX6_attach_9 0 rfl rfl)
theorem dX6_attach_210 : decode cX6_attach 210 = .ok (.invokevirtual 78, 3) := dk_182 0 78 (dk_at dksX6_attach_9 2 rfl rfl)
theorem dX6_attach_213 : decode cX6_attach 213 = .ok (.iconst 1, 1) := dk_4 (dk_at dksX6_attach_9 5 rfl rfl)
theorem dX6_attach_214 : decode cX6_attach 214 = .ok (.if_icmp .ne 14, 3) := dk_160 0 14 (dk_at dksX6_attach_9 6 rfl rfl)
theorem dX6_attach_217 : decode cX6_attach 217 = .ok (.aload_n 0, 1) := dk_42 (dk_at dksX6_attach_9 9 rfl rfl)
theorem dX6_attach_218 : decode cX6_attach 218 = .ok (.getfield 41, 3) := dk_180 0 41 (dk_at dksX6_attach_9 10 rfl rfl)
theorem dX6_attach_221 : decode cX6_attach 221 = .ok (.iload 4, 2) := dk_21 4 (dk_at dksX6_attach_9 13 rfl rfl)
theorem dX6_attach_223 : decode cX6_attach 223 = .ok (.iconst (-1), 1) := dk_2 (dk_at dksX6_attach_9 15 rfl rfl)
theorem dX6_attach_224 : decode cX6_attach 224 = .ok (.iastore, 1) := dk_79 (dk_at dksX6_attach_9 16 rfl rfl)
theorem dX6_attach_225 : decode cX6_attach 225 = .ok (.goto 35, 3) := dk_167 0 35 (dk_at dksX6_attach_9 17 rfl rfl)
theorem dX6_attach_228 : decode cX6_attach 228 = .ok (.iload 5, 2) := dk_21 5 (dk_at dksX6_attach_9 20 rfl rfl)
theorem dX6_attach_230 : decode cX6_attach 230 = .ok (.ifCond .eq 21, 3) := dk_153 0 21 (dk_at dksX6_attach_10 0 rfl rfl)
theorem dX6_attach_233 : decode cX6_attach 233 = .ok (.aload_n 0, 1) := dk_42 (dk_at dksX6_attach_10 3 rfl rfl)
theorem dX6_attach_234 : decode cX6_attach 234 = .ok (.iload 4, 2) := dk_21 4 (dk_at dksX6_attach_10 4 rfl rfl)
theorem dX6_attach_236 : decode cX6_attach 236 = .ok (.invokevirtual 219, 3) := dk_182 0 219 (dk_at dksX6_attach_10 6 rfl rfl)
theorem dX6_attach_239 : decode cX6_attach 239 = .ok (.ifCond .eq 12, 3) := dk_153 0 12 (dk_at dksX6_attach_10 9 rfl rfl)
theorem dX6_attach_242 : decode cX6_attach 242 = .ok (.aload_n 0, 1) := dk_42 (dk_at dksX6_attach_10 12 rfl rfl)
theorem dX6_attach_243 : decode cX6_attach 243 = .ok (.iload 4, 2) := dk_21 4 (dk_at dksX6_attach_10 13 rfl rfl)
theorem dX6_attach_245 : decode cX6_attach 245 = .ok (.invokevirtual 222, 3) := dk_182 0 222 (dk_at dksX6_attach_10 15 rfl rfl)
theorem dX6_attach_248 : decode cX6_attach 248 = .ok (.goto 12, 3) := dk_167 0 12 (dk_at dksX6_attach_10 18 rfl rfl)
theorem dX6_attach_251 : decode cX6_attach 251 = .ok (.aload_n 0, 1) := dk_42 (dk_at dksX6_attach_10 21 rfl rfl)
theorem dX6_attach_252 : decode cX6_attach 252 = .ok (.getfield 41, 3) := dk_180 0 41 (dk_at dksX6_attach_11 0 rfl rfl)
theorem dX6_attach_255 : decode cX6_attach 255 = .ok (.iload 4, 2) := dk_21 4 (dk_at dksX6_attach_11 3 rfl rfl)
theorem dX6_attach_257 : decode cX6_attach 257 = .ok (.bipush (-2), 2) := dk_16 254 (dk_at dksX6_attach_11 5 rfl rfl)
theorem dX6_attach_259 : decode cX6_attach 259 = .ok (.iastore, 1) := dk_79 (dk_at dksX6_attach_11 7 rfl rfl)
theorem dX6_attach_260 : decode cX6_attach 260 = .ok (.iinc 4 1, 3) := dk_132 4 1 (dk_at dksX6_attach_11 8 rfl rfl)
theorem dX6_attach_263 : decode cX6_attach 263 = .ok (.goto (-143), 3) := dk_167 255 113 (dk_at dksX6_attach_11 11 rfl rfl)
theorem dX6_attach_266 : decode cX6_attach 266 = .ok (.return_, 1) := dk_177 (dk_at dksX6_attach_11 14 rfl rfl)
abbrev cX6_readErased : ByteArray := prog_2_method_5_code
def yX6_readErased : MethodName := ⟨RX6, "readErased", "(I)I"⟩
def dkwX6_readErased_3 : List UInt8 := [184, 0, 86, 167, 0, 4, 2, 172]
abbrev dktX6_readErased_3 : List UInt8 := dkwX6_readErased_3 ++ []
def dkwX6_readErased_2 : List UInt8 := [184, 0, 86, 2, 42, 180, 0, 9, 3, 16, 8, 184, 0, 61, 160, 0, 14, 42, 180, 0, 9, 7]
abbrev dktX6_readErased_2 : List UInt8 := dkwX6_readErased_2 ++ dktX6_readErased_3
def dkwX6_readErased_1 : List UInt8 := [3, 182, 0, 82, 42, 180, 0, 9, 3, 184, 0, 86, 18, 56, 160, 0, 37, 42, 180, 0, 9, 16, 8]
abbrev dktX6_readErased_1 : List UInt8 := dkwX6_readErased_1 ++ dktX6_readErased_2
def dkwX6_readErased_0 : List UInt8 := [42, 180, 0, 25, 27, 182, 0, 78, 4, 162, 0, 5, 2, 172, 42, 180, 0, 25, 27, 3, 42, 180, 0, 9]
abbrev dktX6_readErased_0 : List UInt8 := dkwX6_readErased_0 ++ dktX6_readErased_1
theorem dksX6_readErased_0 : cX6_readErased.data.toList.drop 0 = dktX6_readErased_0 := by decide +kernel
theorem dksX6_readErased_1 : cX6_readErased.data.toList.drop 24 = dktX6_readErased_1 := dk_seg dksX6_readErased_0 24 rfl rfl
theorem dksX6_readErased_2 : cX6_readErased.data.toList.drop 47 = dktX6_readErased_2 := dk_seg dksX6_readErased_1 23 rfl rfl
theorem dksX6_readErased_3 : cX6_readErased.data.toList.drop 69 = dktX6_readErased_3 := dk_seg dksX6_readErased_2 22 rfl rfl
theorem dX6_readErased_0 : decode cX6_readErased 0 = .ok (.aload_n 0, 1) := dk_42 (dk_at dksX6_readErased_0 0 rfl rfl)
theorem dX6_readErased_1 : decode cX6_readErased 1 = .ok (.getfield 25, 3) := dk_180 0 25 (dk_at dksX6_readErased_0 1 rfl rfl)
theorem dX6_readErased_4 : decode cX6_readErased 4 = .ok (.iload_n 1, 1) := dk_27 (dk_at dksX6_readErased_0 4 rfl rfl)
theorem dX6_readErased_5 : decode cX6_readErased 5 = .ok (.invokevirtual 78, 3) := dk_182 0 78 (dk_at dksX6_readErased_0 5 rfl rfl)
theorem dX6_readErased_8 : decode cX6_readErased 8 = .ok (.iconst 1, 1) := dk_4 (dk_at dksX6_readErased_0 8 rfl rfl)
theorem dX6_readErased_9 : decode cX6_readErased 9 = .ok (.if_icmp .ge 5, 3) := dk_162 0 5 (dk_at dksX6_readErased_0 9 rfl rfl)
theorem dX6_readErased_12 : decode cX6_readErased 12 = .ok (.iconst (-1), 1) := dk_2 (dk_at dksX6_readErased_0 12 rfl rfl)
theorem dX6_readErased_13 : decode cX6_readErased 13 = .ok (.ireturn, 1) := dk_172 (dk_at dksX6_readErased_0 13 rfl rfl)
theorem dX6_readErased_14 : decode cX6_readErased 14 = .ok (.aload_n 0, 1) := dk_42 (dk_at dksX6_readErased_0 14 rfl rfl)
theorem dX6_readErased_15 : decode cX6_readErased 15 = .ok (.getfield 25, 3) := dk_180 0 25 (dk_at dksX6_readErased_0 15 rfl rfl)
theorem dX6_readErased_18 : decode cX6_readErased 18 = .ok (.iload_n 1, 1) := dk_27 (dk_at dksX6_readErased_0 18 rfl rfl)
theorem dX6_readErased_19 : decode cX6_readErased 19 = .ok (.iconst 0, 1) := dk_3 (dk_at dksX6_readErased_0 19 rfl rfl)
theorem dX6_readErased_20 : decode cX6_readErased 20 = .ok (.aload_n 0, 1) := dk_42 (dk_at dksX6_readErased_0 20 rfl rfl)
theorem dX6_readErased_21 : decode cX6_readErased 21 = .ok (.getfield 9, 3) := dk_180 0 9 (dk_at dksX6_readErased_0 21 rfl rfl)
theorem dX6_readErased_24 : decode cX6_readErased 24 = .ok (.iconst 0, 1) := dk_3 (dk_at dksX6_readErased_1 0 rfl rfl)
theorem dX6_readErased_25 : decode cX6_readErased 25 = .ok (.invokevirtual 82, 3) := dk_182 0 82 (dk_at dksX6_readErased_1 1 rfl rfl)
theorem dX6_readErased_28 : decode cX6_readErased 28 = .ok (.aload_n 0, 1) := dk_42 (dk_at dksX6_readErased_1 4 rfl rfl)
theorem dX6_readErased_29 : decode cX6_readErased 29 = .ok (.getfield 9, 3) := dk_180 0 9 (dk_at dksX6_readErased_1 5 rfl rfl)
theorem dX6_readErased_32 : decode cX6_readErased 32 = .ok (.iconst 0, 1) := dk_3 (dk_at dksX6_readErased_1 8 rfl rfl)
theorem dX6_readErased_33 : decode cX6_readErased 33 = .ok (.invokestatic 86, 3) := dk_184 0 86 (dk_at dksX6_readErased_1 9 rfl rfl)
theorem dX6_readErased_36 : decode cX6_readErased 36 = .ok (.ldc 56, 2) := dk_18 56 (dk_at dksX6_readErased_1 12 rfl rfl)
theorem dX6_readErased_38 : decode cX6_readErased 38 = .ok (.if_icmp .ne 37, 3) := dk_160 0 37 (dk_at dksX6_readErased_1 14 rfl rfl)
theorem dX6_readErased_41 : decode cX6_readErased 41 = .ok (.aload_n 0, 1) := dk_42 (dk_at dksX6_readErased_1 17 rfl rfl)
theorem dX6_readErased_42 : decode cX6_readErased 42 = .ok (.getfield 9, 3) := dk_180 0 9 (dk_at dksX6_readErased_1 18 rfl rfl)
theorem dX6_readErased_45 : decode cX6_readErased 45 = .ok (.bipush 8, 2) := dk_16 8 (dk_at dksX6_readErased_1 21 rfl rfl)
theorem dX6_readErased_47 : decode cX6_readErased 47 = .ok (.invokestatic 86, 3) := dk_184 0 86 (dk_at dksX6_readErased_2 0 rfl rfl)
theorem dX6_readErased_50 : decode cX6_readErased 50 = .ok (.iconst (-1), 1) := dk_2 (dk_at dksX6_readErased_2 3 rfl rfl)
theorem dX6_readErased_51 : decode cX6_readErased 51 = .ok (.aload_n 0, 1) := dk_42 (dk_at dksX6_readErased_2 4 rfl rfl)
theorem dX6_readErased_52 : decode cX6_readErased 52 = .ok (.getfield 9, 3) := dk_180 0 9 (dk_at dksX6_readErased_2 5 rfl rfl)
theorem dX6_readErased_55 : decode cX6_readErased 55 = .ok (.iconst 0, 1) := dk_3 (dk_at dksX6_readErased_2 8 rfl rfl)
theorem dX6_readErased_56 : decode cX6_readErased 56 = .ok (.bipush 8, 2) := dk_16 8 (dk_at dksX6_readErased_2 9 rfl rfl)
theorem dX6_readErased_58 : decode cX6_readErased 58 = .ok (.invokestatic 61, 3) := dk_184 0 61 (dk_at dksX6_readErased_2 11 rfl rfl)
theorem dX6_readErased_61 : decode cX6_readErased 61 = .ok (.if_icmp .ne 14, 3) := dk_160 0 14 (dk_at dksX6_readErased_2 14 rfl rfl)
theorem dX6_readErased_64 : decode cX6_readErased 64 = .ok (.aload_n 0, 1) := dk_42 (dk_at dksX6_readErased_2 17 rfl rfl)
theorem dX6_readErased_65 : decode cX6_readErased 65 = .ok (.getfield 9, 3) := dk_180 0 9 (dk_at dksX6_readErased_2 18 rfl rfl)
theorem dX6_readErased_68 : decode cX6_readErased 68 = .ok (.iconst 4, 1) := dk_7 (dk_at dksX6_readErased_2 21 rfl rfl)
theorem dX6_readErased_69 : decode cX6_readErased 69 = .ok (.invokestatic 86, 3) := dk_184 0 86 (dk_at dksX6_readErased_3 0 rfl rfl)
theorem dX6_readErased_72 : decode cX6_readErased 72 = .ok (.goto 4, 3) := dk_167 0 4 (dk_at dksX6_readErased_3 3 rfl rfl)
theorem dX6_readErased_75 : decode cX6_readErased 75 = .ok (.iconst (-1), 1) := dk_2 (dk_at dksX6_readErased_3 6 rfl rfl)
theorem dX6_readErased_76 : decode cX6_readErased 76 = .ok (.ireturn, 1) := dk_172 (dk_at dksX6_readErased_3 7 rfl rfl)
abbrev cX6_readHead : ByteArray := prog_2_method_6_code
def yX6_readHead : MethodName := ⟨RX6, "readHead", "(I)Z"⟩
def dkwX6_readHead_6 : List UInt8 := [42, 180, 0, 29, 4, 100, 184, 0, 110, 153, 0, 7, 4, 167, 0, 4, 3, 172]
abbrev dktX6_readHead_6 : List UInt8 := dkwX6_readHead_6 ++ []
def dkwX6_readHead_5 : List UInt8 := [16, 28, 184, 0, 86, 2, 42, 180, 0, 9, 3, 16, 28, 184, 0, 61, 160, 0, 24, 42, 180, 0, 90, 3]
abbrev dktX6_readHead_5 : List UInt8 := dkwX6_readHead_5 ++ dktX6_readHead_6
def dkwX6_readHead_4 : List UInt8 := [184, 0, 86, 181, 0, 107, 42, 180, 0, 9, 3, 184, 0, 86, 18, 69, 160, 0, 47, 42, 180, 0, 9]
abbrev dktX6_readHead_4 : List UInt8 := dkwX6_readHead_4 ++ dktX6_readHead_5
def dkwX6_readHead_3 : List UInt8 := [3, 181, 0, 100, 42, 42, 180, 0, 9, 16, 20, 184, 0, 86, 181, 0, 104, 42, 42, 180, 0, 9, 16, 24]
abbrev dktX6_readHead_3 : List UInt8 := dkwX6_readHead_3 ++ dktX6_readHead_4
def dkwX6_readHead_2 : List UInt8 := [184, 0, 93, 181, 0, 97, 42, 42, 180, 0, 9, 16, 16, 184, 0, 86, 4, 160, 0, 7, 4, 167, 0, 4]
abbrev dktX6_readHead_2 : List UInt8 := dkwX6_readHead_2 ++ dktX6_readHead_3
def dkwX6_readHead_1 : List UInt8 := [3, 182, 0, 82, 42, 42, 180, 0, 9, 7, 184, 0, 86, 181, 0, 90, 42, 42, 180, 0, 9, 16, 8]
abbrev dktX6_readHead_1 : List UInt8 := dkwX6_readHead_1 ++ dktX6_readHead_2
def dkwX6_readHead_0 : List UInt8 := [42, 180, 0, 25, 27, 182, 0, 78, 5, 162, 0, 5, 3, 172, 42, 180, 0, 25, 27, 4, 42, 180, 0, 9]
abbrev dktX6_readHead_0 : List UInt8 := dkwX6_readHead_0 ++ dktX6_readHead_1
theorem dksX6_readHead_0 : cX6_readHead.data.toList.drop 0 = dktX6_readHead_0 := by decide +kernel
theorem dksX6_readHead_1 : cX6_readHead.data.toList.drop 24 = dktX6_readHead_1 := dk_seg dksX6_readHead_0 24 rfl rfl
theorem dksX6_readHead_2 : cX6_readHead.data.toList.drop 47 = dktX6_readHead_2 := dk_seg dksX6_readHead_1 23 rfl rfl
theorem dksX6_readHead_3 : cX6_readHead.data.toList.drop 71 = dktX6_readHead_3 := dk_seg dksX6_readHead_2 24 rfl rfl
theorem dksX6_readHead_4 : cX6_readHead.data.toList.drop 95 = dktX6_readHead_4 := dk_seg dksX6_readHead_3 24 rfl rfl
theorem dksX6_readHead_5 : cX6_readHead.data.toList.drop 118 = dktX6_readHead_5 := dk_seg dksX6_readHead_4 23 rfl rfl
theorem dksX6_readHead_6 : cX6_readHead.data.toList.drop 142 = dktX6_readHead_6 := dk_seg dksX6_readHead_5 24 rfl rfl
theorem dX6_readHead_0 : decode cX6_readHead 0 = .ok (.aload_n 0, 1) := dk_42 (dk_at dksX6_readHead_0 0 rfl rfl)
theorem dX6_readHead_1 : decode cX6_readHead 1 = .ok (.getfield 25, 3) := dk_180 0 25 (dk_at dksX6_readHead_0 1 rfl rfl)
theorem dX6_readHead_4 : decode cX6_readHead 4 = .ok (.iload_n 1, 1) := dk_27 (dk_at dksX6_readHead_0 4 rfl rfl)
theorem dX6_readHead_5 : decode cX6_readHead 5 = .ok (.invokevirtual 78, 3) := dk_182 0 78 (dk_at dksX6_readHead_0 5 rfl rfl)
theorem dX6_readHead_8 : decode cX6_readHead 8 = .ok (.iconst 2, 1) := dk_5 (dk_at dksX6_readHead_0 8 rfl rfl)
theorem dX6_readHead_9 : decode cX6_readHead 9 = .ok (.if_icmp .ge 5, 3) := dk_162 0 5 (dk_at dksX6_readHead_0 9 rfl rfl)
theorem dX6_readHead_12 : decode cX6_readHead 12 = .ok (.iconst 0, 1) := dk_3 (dk_at dksX6_readHead_0 12 rfl rfl)
theorem dX6_readHead_13 : decode cX6_readHead 13 = .ok (.ireturn, 1) := dk_172 (dk_at dksX6_readHead_0 13 rfl rfl)
theorem dX6_readHead_14 : decode cX6_readHead 14 = .ok (.aload_n 0, 1) := dk_42 (dk_at dksX6_readHead_0 14 rfl rfl)
theorem dX6_readHead_15 : decode cX6_readHead 15 = .ok (.getfield 25, 3) := dk_180 0 25 (dk_at dksX6_readHead_0 15 rfl rfl)
theorem dX6_readHead_18 : decode cX6_readHead 18 = .ok (.iload_n 1, 1) := dk_27 (dk_at dksX6_readHead_0 18 rfl rfl)
theorem dX6_readHead_19 : decode cX6_readHead 19 = .ok (.iconst 1, 1) := dk_4 (dk_at dksX6_readHead_0 19 rfl rfl)
theorem dX6_readHead_20 : decode cX6_readHead 20 = .ok (.aload_n 0, 1) := dk_42 (dk_at dksX6_readHead_0 20 rfl rfl)
theorem dX6_readHead_21 : decode cX6_readHead 21 = .ok (.getfield 9, 3) := dk_180 0 9 (dk_at dksX6_readHead_0 21 rfl rfl)
theorem dX6_readHead_24 : decode cX6_readHead 24 = .ok (.iconst 0, 1) := dk_3 (dk_at dksX6_readHead_1 0 rfl rfl)
theorem dX6_readHead_25 : decode cX6_readHead 25 = .ok (.invokevirtual 82, 3) := dk_182 0 82 (dk_at dksX6_readHead_1 1 rfl rfl)
theorem dX6_readHead_28 : decode cX6_readHead 28 = .ok (.aload_n 0, 1) := dk_42 (dk_at dksX6_readHead_1 4 rfl rfl)
theorem dX6_readHead_29 : decode cX6_readHead 29 = .ok (.aload_n 0, 1) := dk_42 (dk_at dksX6_readHead_1 5 rfl rfl)
theorem dX6_readHead_30 : decode cX6_readHead 30 = .ok (.getfield 9, 3) := dk_180 0 9 (dk_at dksX6_readHead_1 6 rfl rfl)
theorem dX6_readHead_33 : decode cX6_readHead 33 = .ok (.iconst 4, 1) := dk_7 (dk_at dksX6_readHead_1 9 rfl rfl)
theorem dX6_readHead_34 : decode cX6_readHead 34 = .ok (.invokestatic 86, 3) := dk_184 0 86 (dk_at dksX6_readHead_1 10 rfl rfl)
theorem dX6_readHead_37 : decode cX6_readHead 37 = .ok (.putfield 90, 3) := dk_181 0 90 (dk_at dksX6_readHead_1 13 rfl rfl)
theorem dX6_readHead_40 : decode cX6_readHead 40 = .ok (.aload_n 0, 1) := dk_42 (dk_at dksX6_readHead_1 16 rfl rfl)
theorem dX6_readHead_41 : decode cX6_readHead 41 = .ok (.aload_n 0, 1) := dk_42 (dk_at dksX6_readHead_1 17 rfl rfl)
theorem dX6_readHead_42 : decode cX6_readHead 42 = .ok (.getfield 9, 3) := dk_180 0 9 (dk_at dksX6_readHead_1 18 rfl rfl)
theorem dX6_readHead_45 : decode cX6_readHead 45 = .ok (.bipush 8, 2) := dk_16 8 (dk_at dksX6_readHead_1 21 rfl rfl)
theorem dX6_readHead_47 : decode cX6_readHead 47 = .ok (.invokestatic 93, 3) := dk_184 0 93 (dk_at dksX6_readHead_2 0 rfl rfl)
theorem dX6_readHead_50 : decode cX6_readHead 50 = .ok (.putfield 97, 3) := dk_181 0 97 (dk_at dksX6_readHead_2 3 rfl rfl)
theorem dX6_readHead_53 : decode cX6_readHead 53 = .ok (.aload_n 0, 1) := dk_42 (dk_at dksX6_readHead_2 6 rfl rfl)
theorem dX6_readHead_54 : decode cX6_readHead 54 = .ok (.aload_n 0, 1) := dk_42 (dk_at dksX6_readHead_2 7 rfl rfl)
theorem dX6_readHead_55 : decode cX6_readHead 55 = .ok (.getfield 9, 3) := dk_180 0 9 (dk_at dksX6_readHead_2 8 rfl rfl)
theorem dX6_readHead_58 : decode cX6_readHead 58 = .ok (.bipush 16, 2) := dk_16 16 (dk_at dksX6_readHead_2 11 rfl rfl)
theorem dX6_readHead_60 : decode cX6_readHead 60 = .ok (.invokestatic 86, 3) := dk_184 0 86 (dk_at dksX6_readHead_2 13 rfl rfl)
theorem dX6_readHead_63 : decode cX6_readHead 63 = .ok (.iconst 1, 1) := dk_4 (dk_at dksX6_readHead_2 16 rfl rfl)
theorem dX6_readHead_64 : decode cX6_readHead 64 = .ok (.if_icmp .ne 7, 3) := dk_160 0 7 (dk_at dksX6_readHead_2 17 rfl rfl)
theorem dX6_readHead_67 : decode cX6_readHead 67 = .ok (.iconst 1, 1) := dk_4 (dk_at dksX6_readHead_2 20 rfl rfl)
theorem dX6_readHead_68 : decode cX6_readHead 68 = .ok (.goto 4, 3) := dk_167 0 4 (dk_at dksX6_readHead_2 21 rfl rfl)
theorem dX6_readHead_71 : decode cX6_readHead 71 = .ok (.iconst 0, 1) := dk_3 (dk_at dksX6_readHead_3 0 rfl rfl)
theorem dX6_readHead_72 : decode cX6_readHead 72 = .ok (.putfield 100, 3) := dk_181 0 100 (dk_at dksX6_readHead_3 1 rfl rfl)
theorem dX6_readHead_75 : decode cX6_readHead 75 = .ok (.aload_n 0, 1) := dk_42 (dk_at dksX6_readHead_3 4 rfl rfl)
theorem dX6_readHead_76 : decode cX6_readHead 76 = .ok (.aload_n 0, 1) := dk_42 (dk_at dksX6_readHead_3 5 rfl rfl)
theorem dX6_readHead_77 : decode cX6_readHead 77 = .ok (.getfield 9, 3) := dk_180 0 9 (dk_at dksX6_readHead_3 6 rfl rfl)
theorem dX6_readHead_80 : decode cX6_readHead 80 = .ok (.bipush 20, 2) := dk_16 20 (dk_at dksX6_readHead_3 9 rfl rfl)
theorem dX6_readHead_82 : decode cX6_readHead 82 = .ok (.invokestatic 86, 3) := dk_184 0 86 (dk_at dksX6_readHead_3 11 rfl rfl)
theorem dX6_readHead_85 : decode cX6_readHead 85 = .ok (.putfield 104, 3) := dk_181 0 104 (dk_at dksX6_readHead_3 14 rfl rfl)
theorem dX6_readHead_88 : decode cX6_readHead 88 = .ok (.aload_n 0, 1) := dk_42 (dk_at dksX6_readHead_3 17 rfl rfl)
theorem dX6_readHead_89 : decode cX6_readHead 89 = .ok (.aload_n 0, 1) := dk_42 (dk_at dksX6_readHead_3 18 rfl rfl)
theorem dX6_readHead_90 : decode cX6_readHead 90 = .ok (.getfield 9, 3) := dk_180 0 9 (dk_at dksX6_readHead_3 19 rfl rfl)
theorem dX6_readHead_93 : decode cX6_readHead 93 = .ok (.bipush 24, 2) := dk_16 24 (dk_at dksX6_readHead_3 22 rfl rfl)
theorem dX6_readHead_95 : decode cX6_readHead 95 = .ok (.invokestatic 86, 3) := dk_184 0 86 (dk_at dksX6_readHead_4 0 rfl rfl)
theorem dX6_readHead_98 : decode cX6_readHead 98 = .ok (.putfield 107, 3) := dk_181 0 107 (dk_at dksX6_readHead_4 3 rfl rfl)
theorem dX6_readHead_101 : decode cX6_readHead 101 = .ok (.aload_n 0, 1) := dk_42 (dk_at dksX6_readHead_4 6 rfl rfl)
theorem dX6_readHead_102 : decode cX6_readHead 102 = .ok (.getfield 9, 3) := dk_180 0 9 (dk_at dksX6_readHead_4 7 rfl rfl)
theorem dX6_readHead_105 : decode cX6_readHead 105 = .ok (.iconst 0, 1) := dk_3 (dk_at dksX6_readHead_4 10 rfl rfl)
theorem dX6_readHead_106 : decode cX6_readHead 106 = .ok (.invokestatic 86, 3) := dk_184 0 86 (dk_at dksX6_readHead_4 11 rfl rfl)
theorem dX6_readHead_109 : decode cX6_readHead 109 = .ok (.ldc 69, 2) := dk_18 69 (dk_at dksX6_readHead_4 14 rfl rfl)
theorem dX6_readHead_111 : decode cX6_readHead 111 = .ok (.if_icmp .ne 47, 3) := dk_160 0 47 (dk_at dksX6_readHead_4 16 rfl rfl)
theorem dX6_readHead_114 : decode cX6_readHead 114 = .ok (.aload_n 0, 1) := dk_42 (dk_at dksX6_readHead_4 19 rfl rfl)
theorem dX6_readHead_115 : decode cX6_readHead 115 = .ok (.getfield 9, 3) := dk_180 0 9 (dk_at dksX6_readHead_4 20 rfl rfl)
theorem dX6_readHead_118 : decode cX6_readHead 118 = .ok (.bipush 28, 2) := dk_16 28 (dk_at dksX6_readHead_5 0 rfl rfl)
theorem dX6_readHead_120 : decode cX6_readHead 120 = .ok (.invokestatic 86, 3) := dk_184 0 86 (dk_at dksX6_readHead_5 2 rfl rfl)
theorem dX6_readHead_123 : decode cX6_readHead 123 = .ok (.iconst (-1), 1) := dk_2 (dk_at dksX6_readHead_5 5 rfl rfl)
theorem dX6_readHead_124 : decode cX6_readHead 124 = .ok (.aload_n 0, 1) := dk_42 (dk_at dksX6_readHead_5 6 rfl rfl)
theorem dX6_readHead_125 : decode cX6_readHead 125 = .ok (.getfield 9, 3) := dk_180 0 9 (dk_at dksX6_readHead_5 7 rfl rfl)
theorem dX6_readHead_128 : decode cX6_readHead 128 = .ok (.iconst 0, 1) := dk_3 (dk_at dksX6_readHead_5 10 rfl rfl)
theorem dX6_readHead_129 : decode cX6_readHead 129 = .ok (.bipush 28, 2) := dk_16 28 (dk_at dksX6_readHead_5 11 rfl rfl)
theorem dX6_readHead_131 : decode cX6_readHead 131 = .ok (.invokestatic 61, 3) := dk_184 0 61 (dk_at dksX6_readHead_5 13 rfl rfl)
theorem dX6_readHead_134 : decode cX6_readHead 134 = .ok (.if_icmp .ne 24, 3) := dk_160 0 24 (dk_at dksX6_readHead_5 16 rfl rfl)
theorem dX6_readHead_137 : decode cX6_readHead 137 = .ok (.aload_n 0, 1) := dk_42 (dk_at dksX6_readHead_5 19 rfl rfl)
theorem dX6_readHead_138 : decode cX6_readHead 138 = .ok (.getfield 90, 3) := dk_180 0 90 (dk_at dksX6_readHead_5 20 rfl rfl)
theorem dX6_readHead_141 : decode cX6_readHead 141 = .ok (.iconst 0, 1) := dk_3 (dk_at dksX6_readHead_5 23 rfl rfl)
theorem dX6_readHead_142 : decode cX6_readHead 142 = .ok (.aload_n 0, 1) := dk_42 (dk_at dksX6_readHead_6 0 rfl rfl)
theorem dX6_readHead_143 : decode cX6_readHead 143 = .ok (.getfield 29, 3) := dk_180 0 29 (dk_at dksX6_readHead_6 1 rfl rfl)
theorem dX6_readHead_146 : decode cX6_readHead 146 = .ok (.iconst 1, 1) := dk_4 (dk_at dksX6_readHead_6 4 rfl rfl)
theorem dX6_readHead_147 : decode cX6_readHead 147 = .ok (.isub, 1) := dk_100 (dk_at dksX6_readHead_6 5 rfl rfl)
theorem dX6_readHead_148 : decode cX6_readHead 148 = .ok (.invokestatic 110, 3) := dk_184 0 110 (dk_at dksX6_readHead_6 6 rfl rfl)
theorem dX6_readHead_151 : decode cX6_readHead 151 = .ok (.ifCond .eq 7, 3) := dk_153 0 7 (dk_at dksX6_readHead_6 9 rfl rfl)
theorem dX6_readHead_154 : decode cX6_readHead 154 = .ok (.iconst 1, 1) := dk_4 (dk_at dksX6_readHead_6 12 rfl rfl)
theorem dX6_readHead_155 : decode cX6_readHead 155 = .ok (.goto 4, 3) := dk_167 0 4 (dk_at dksX6_readHead_6 13 rfl rfl)
theorem dX6_readHead_158 : decode cX6_readHead 158 = .ok (.iconst 0, 1) := dk_3 (dk_at dksX6_readHead_6 16 rfl rfl)
theorem dX6_readHead_159 : decode cX6_readHead 159 = .ok (.ireturn, 1) := dk_172 (dk_at dksX6_readHead_6 17 rfl rfl)
abbrev cX6_claim : ByteArray := prog_2_method_31_code
def yX6_claim : MethodName := ⟨RX6, "claim", "(I)V"⟩
def dkwX6_claim_7 : List UInt8 := [27, 28, 79, 42, 180, 0, 32, 28, 27, 79, 177]
abbrev dktX6_claim_7 : List UInt8 := dkwX6_claim_7 ++ []
def dkwX6_claim_6 : List UInt8 := [27, 16, 254, 79, 177, 21, 6, 2, 159, 0, 12, 42, 180, 0, 41, 21, 6, 16, 254, 79, 42, 180, 0, 41]
abbrev dktX6_claim_6 : List UInt8 := dkwX6_claim_6 ++ dktX6_claim_7
def dkwX6_claim_5 : List UInt8 := [158, 0, 7, 4, 167, 0, 4, 3, 54, 7, 21, 5, 153, 0, 8, 21, 7, 154, 0, 12, 42, 180, 0, 41]
abbrev dktX6_claim_5 : List UInt8 := dkwX6_claim_5 ++ dktX6_claim_6
def dkwX6_claim_4 : List UInt8 := [21, 5, 153, 0, 31, 21, 7, 154, 0, 26, 42, 21, 6, 182, 0, 219, 87, 33, 42, 180, 0, 97, 148]
abbrev dktX6_claim_4 : List UInt8 := dkwX6_claim_4 ++ dktX6_claim_5
def dkwX6_claim_3 : List UInt8 := [181, 0, 70, 42, 180, 0, 32, 28, 46, 54, 6, 21, 6, 2, 160, 0, 7, 4, 167, 0, 4, 3, 54, 7]
abbrev dktX6_claim_3 : List UInt8 := dkwX6_claim_3 ++ dktX6_claim_4
def dkwX6_claim_2 : List UInt8 := [180, 0, 107, 160, 0, 7, 4, 167, 0, 4, 3, 54, 5, 42, 42, 180, 0, 70, 33, 184, 0, 225]
abbrev dktX6_claim_2 : List UInt8 := dkwX6_claim_2 ++ dktX6_claim_3
def dkwX6_claim_1 : List UInt8 := [182, 0, 78, 5, 100, 42, 180, 0, 104, 161, 0, 23, 42, 27, 42, 180, 0, 104, 182, 0, 210, 42]
abbrev dktX6_claim_1 : List UInt8 := dkwX6_claim_1 ++ dktX6_claim_2
def dkwX6_claim_0 : List UInt8 := [42, 180, 0, 90, 61, 42, 180, 0, 97, 66, 42, 180, 0, 100, 153, 0, 36, 42, 180, 0, 25, 27]
abbrev dktX6_claim_0 : List UInt8 := dkwX6_claim_0 ++ dktX6_claim_1
theorem dksX6_claim_0 : cX6_claim.data.toList.drop 0 = dktX6_claim_0 := by decide +kernel
theorem dksX6_claim_1 : cX6_claim.data.toList.drop 22 = dktX6_claim_1 := dk_seg dksX6_claim_0 22 rfl rfl
theorem dksX6_claim_2 : cX6_claim.data.toList.drop 44 = dktX6_claim_2 := dk_seg dksX6_claim_1 22 rfl rfl
theorem dksX6_claim_3 : cX6_claim.data.toList.drop 66 = dktX6_claim_3 := dk_seg dksX6_claim_2 22 rfl rfl
theorem dksX6_claim_4 : cX6_claim.data.toList.drop 90 = dktX6_claim_4 := dk_seg dksX6_claim_3 24 rfl rfl
theorem dksX6_claim_5 : cX6_claim.data.toList.drop 113 = dktX6_claim_5 := dk_seg dksX6_claim_4 23 rfl rfl
theorem dksX6_claim_6 : cX6_claim.data.toList.drop 137 = dktX6_claim_6 := dk_seg dksX6_claim_5 24 rfl rfl
theorem dksX6_claim_7 : cX6_claim.data.toList.drop 161 = dktX6_claim_7 := dk_seg dksX6_claim_6 24 rfl rfl
theorem dX6_claim_0 : decode cX6_claim 0 = .ok (.aload_n 0, 1) := dk_42 (dk_at dksX6_claim_0 0 rfl rfl)
theorem dX6_claim_1 : decode cX6_claim 1 = .ok (.getfield 90, 3) := dk_180 0 90 (dk_at dksX6_claim_0 1 rfl rfl)
theorem dX6_claim_4 : decode cX6_claim 4 = .ok (.istore_n 2, 1) := dk_61 (dk_at dksX6_claim_0 4 rfl rfl)
theorem dX6_claim_5 : decode cX6_claim 5 = .ok (.aload_n 0, 1) := dk_42 (dk_at dksX6_claim_0 5 rfl rfl)
theorem dX6_claim_6 : decode cX6_claim 6 = .ok (.getfield 97, 3) := dk_180 0 97 (dk_at dksX6_claim_0 6 rfl rfl)
theorem dX6_claim_9 : decode cX6_claim 9 = .ok (.lstore_n 3, 1) := dk_66 (dk_at dksX6_claim_0 9 rfl rfl)
theorem dX6_claim_10 : decode cX6_claim 10 = .ok (.aload_n 0, 1) := dk_42 (dk_at dksX6_claim_0 10 rfl rfl)
theorem dX6_claim_11 : decode cX6_claim 11 = .ok (.getfield 100, 3) := dk_180 0 100 (dk_at dksX6_claim_0 11 rfl rfl)
theorem dX6_claim_14 : decode cX6_claim 14 = .ok (.ifCond .eq 36, 3) := dk_153 0 36 (dk_at dksX6_claim_0 14 rfl rfl)
theorem dX6_claim_17 : decode cX6_claim 17 = .ok (.aload_n 0, 1) := dk_42 (dk_at dksX6_claim_0 17 rfl rfl)
theorem dX6_claim_18 : decode cX6_claim 18 = .ok (.getfield 25, 3) := dk_180 0 25 (dk_at dksX6_claim_0 18 rfl rfl)
theorem dX6_claim_21 : decode cX6_claim 21 = .ok (.iload_n 1, 1) := dk_27 (dk_at dksX6_claim_0 21 rfl rfl)
theorem dX6_claim_22 : decode cX6_claim 22 = .ok (.invokevirtual 78, 3) := dk_182 0 78 (dk_at dksX6_claim_1 0 rfl rfl)
theorem dX6_claim_25 : decode cX6_claim 25 = .ok (.iconst 2, 1) := dk_5 (dk_at dksX6_claim_1 3 rfl rfl)
theorem dX6_claim_26 : decode cX6_claim 26 = .ok (.isub, 1) := dk_100 (dk_at dksX6_claim_1 4 rfl rfl)
theorem dX6_claim_27 : decode cX6_claim 27 = .ok (.aload_n 0, 1) := dk_42 (dk_at dksX6_claim_1 5 rfl rfl)
theorem dX6_claim_28 : decode cX6_claim 28 = .ok (.getfield 104, 3) := dk_180 0 104 (dk_at dksX6_claim_1 6 rfl rfl)
theorem dX6_claim_31 : decode cX6_claim 31 = .ok (.if_icmp .lt 23, 3) := dk_161 0 23 (dk_at dksX6_claim_1 9 rfl rfl)
theorem dX6_claim_34 : decode cX6_claim 34 = .ok (.aload_n 0, 1) := dk_42 (dk_at dksX6_claim_1 12 rfl rfl)
theorem dX6_claim_35 : decode cX6_claim 35 = .ok (.iload_n 1, 1) := dk_27 (dk_at dksX6_claim_1 13 rfl rfl)
theorem dX6_claim_36 : decode cX6_claim 36 = .ok (.aload_n 0, 1) := dk_42 (dk_at dksX6_claim_1 14 rfl rfl)
theorem dX6_claim_37 : decode cX6_claim 37 = .ok (.getfield 104, 3) := dk_180 0 104 (dk_at dksX6_claim_1 15 rfl rfl)
theorem dX6_claim_40 : decode cX6_claim 40 = .ok (.invokevirtual 210, 3) := dk_182 0 210 (dk_at dksX6_claim_1 18 rfl rfl)
theorem dX6_claim_43 : decode cX6_claim 43 = .ok (.aload_n 0, 1) := dk_42 (dk_at dksX6_claim_1 21 rfl rfl)
theorem dX6_claim_44 : decode cX6_claim 44 = .ok (.getfield 107, 3) := dk_180 0 107 (dk_at dksX6_claim_2 0 rfl rfl)
theorem dX6_claim_47 : decode cX6_claim 47 = .ok (.if_icmp .ne 7, 3) := dk_160 0 7 (dk_at dksX6_claim_2 3 rfl rfl)
theorem dX6_claim_50 : decode cX6_claim 50 = .ok (.iconst 1, 1) := dk_4 (dk_at dksX6_claim_2 6 rfl rfl)
theorem dX6_claim_51 : decode cX6_claim 51 = .ok (.goto 4, 3) := dk_167 0 4 (dk_at dksX6_claim_2 7 rfl rfl)
theorem dX6_claim_54 : decode cX6_claim 54 = .ok (.iconst 0, 1) := dk_3 (dk_at dksX6_claim_2 10 rfl rfl)
theorem dX6_claim_55 : decode cX6_claim 55 = .ok (.istore 5, 2) := dk_54 5 (dk_at dksX6_claim_2 11 rfl rfl)
theorem dX6_claim_57 : decode cX6_claim 57 = .ok (.aload_n 0, 1) := dk_42 (dk_at dksX6_claim_2 13 rfl rfl)
theorem dX6_claim_58 : decode cX6_claim 58 = .ok (.aload_n 0, 1) := dk_42 (dk_at dksX6_claim_2 14 rfl rfl)
theorem dX6_claim_59 : decode cX6_claim 59 = .ok (.getfield 70, 3) := dk_180 0 70 (dk_at dksX6_claim_2 15 rfl rfl)
theorem dX6_claim_62 : decode cX6_claim 62 = .ok (.lload_n 3, 1) := dk_33 (dk_at dksX6_claim_2 18 rfl rfl)
theorem dX6_claim_63 : decode cX6_claim 63 = .ok (.invokestatic 225, 3) := dk_184 0 225 (dk_at dksX6_claim_2 19 rfl rfl)
theorem dX6_claim_66 : decode cX6_claim 66 = .ok (.putfield 70, 3) := dk_181 0 70 (dk_at dksX6_claim_3 0 rfl rfl)
theorem dX6_claim_69 : decode cX6_claim 69 = .ok (.aload_n 0, 1) := dk_42 (dk_at dksX6_claim_3 3 rfl rfl)
theorem dX6_claim_70 : decode cX6_claim 70 = .ok (.getfield 32, 3) := dk_180 0 32 (dk_at dksX6_claim_3 4 rfl rfl)
theorem dX6_claim_73 : decode cX6_claim 73 = .ok (.iload_n 2, 1) := dk_28 (dk_at dksX6_claim_3 7 rfl rfl)
theorem dX6_claim_74 : decode cX6_claim 74 = .ok (.iaload, 1) := dk_46 (dk_at dksX6_claim_3 8 rfl rfl)
theorem dX6_claim_75 : decode cX6_claim 75 = .ok (.istore 6, 2) := dk_54 6 (dk_at dksX6_claim_3 9 rfl rfl)
theorem dX6_claim_77 : decode cX6_claim 77 = .ok (.iload 6, 2) := dk_21 6 (dk_at dksX6_claim_3 11 rfl rfl)
theorem dX6_claim_79 : decode cX6_claim 79 = .ok (.iconst (-1), 1) := dk_2 (dk_at dksX6_claim_3 13 rfl rfl)
theorem dX6_claim_80 : decode cX6_claim 80 = .ok (.if_icmp .ne 7, 3) := dk_160 0 7 (dk_at dksX6_claim_3 14 rfl rfl)
theorem dX6_claim_83 : decode cX6_claim 83 = .ok (.iconst 1, 1) := dk_4 (dk_at dksX6_claim_3 17 rfl rfl)
theorem dX6_claim_84 : decode cX6_claim 84 = .ok (.goto 4, 3) := dk_167 0 4 (dk_at dksX6_claim_3 18 rfl rfl)
theorem dX6_claim_87 : decode cX6_claim 87 = .ok (.iconst 0, 1) := dk_3 (dk_at dksX6_claim_3 21 rfl rfl)
theorem dX6_claim_88 : decode cX6_claim 88 = .ok (.istore 7, 2) := dk_54 7 (dk_at dksX6_claim_3 22 rfl rfl)
theorem dX6_claim_90 : decode cX6_claim 90 = .ok (.iload 5, 2) := dk_21 5 (dk_at dksX6_claim_4 0 rfl rfl)
theorem dX6_claim_92 : decode cX6_claim 92 = .ok (.ifCond .eq 31, 3) := dk_153 0 31 (dk_at dksX6_claim_4 2 rfl rfl)
theorem dX6_claim_95 : decode cX6_claim 95 = .ok (.iload 7, 2) := dk_21 7 (dk_at dksX6_claim_4 5 rfl rfl)
theorem dX6_claim_97 : decode cX6_claim 97 = .ok (.ifCond .ne 26, 3) := dk_154 0 26 (dk_at dksX6_claim_4 7 rfl rfl)
theorem dX6_claim_100 : decode cX6_claim 100 = .ok (.aload_n 0, 1) := dk_42 (dk_at dksX6_claim_4 10 rfl rfl)
theorem dX6_claim_101 : decode cX6_claim 101 = .ok (.iload 6, 2) := dk_21 6 (dk_at dksX6_claim_4 11 rfl rfl)
theorem dX6_claim_103 : decode cX6_claim 103 = .ok (.invokevirtual 219, 3) := dk_182 0 219 (dk_at dksX6_claim_4 13 rfl rfl)
theorem dX6_claim_106 : decode cX6_claim 106 = .ok (.pop, 1) := dk_87 (dk_at dksX6_claim_4 16 rfl rfl)
theorem dX6_claim_107 : decode cX6_claim 107 = .ok (.lload_n 3, 1) := dk_33 (dk_at dksX6_claim_4 17 rfl rfl)
theorem dX6_claim_108 : decode cX6_claim 108 = .ok (.aload_n 0, 1) := dk_42 (dk_at dksX6_claim_4 18 rfl rfl)
theorem dX6_claim_109 : decode cX6_claim 109 = .ok (.getfield 97, 3) := dk_180 0 97 (dk_at dksX6_claim_4 19 rfl rfl)
theorem dX6_claim_112 : decode cX6_claim 112 = .ok (.lcmp, 1) := dk_148 (dk_at dksX6_claim_4 22 rfl rfl)
theorem dX6_claim_113 : decode cX6_claim 113 = .ok (.ifCond .le 7, 3) := dk_158 0 7 (dk_at dksX6_claim_5 0 rfl rfl)
theorem dX6_claim_116 : decode cX6_claim 116 = .ok (.iconst 1, 1) := dk_4 (dk_at dksX6_claim_5 3 rfl rfl)
theorem dX6_claim_117 : decode cX6_claim 117 = .ok (.goto 4, 3) := dk_167 0 4 (dk_at dksX6_claim_5 4 rfl rfl)
theorem dX6_claim_120 : decode cX6_claim 120 = .ok (.iconst 0, 1) := dk_3 (dk_at dksX6_claim_5 7 rfl rfl)
theorem dX6_claim_121 : decode cX6_claim 121 = .ok (.istore 7, 2) := dk_54 7 (dk_at dksX6_claim_5 8 rfl rfl)
theorem dX6_claim_123 : decode cX6_claim 123 = .ok (.iload 5, 2) := dk_21 5 (dk_at dksX6_claim_5 10 rfl rfl)
theorem dX6_claim_125 : decode cX6_claim 125 = .ok (.ifCond .eq 8, 3) := dk_153 0 8 (dk_at dksX6_claim_5 12 rfl rfl)
theorem dX6_claim_128 : decode cX6_claim 128 = .ok (.iload 7, 2) := dk_21 7 (dk_at dksX6_claim_5 15 rfl rfl)
theorem dX6_claim_130 : decode cX6_claim 130 = .ok (.ifCond .ne 12, 3) := dk_154 0 12 (dk_at dksX6_claim_5 17 rfl rfl)
theorem dX6_claim_133 : decode cX6_claim 133 = .ok (.aload_n 0, 1) := dk_42 (dk_at dksX6_claim_5 20 rfl rfl)
theorem dX6_claim_134 : decode cX6_claim 134 = .ok (.getfield 41, 3) := dk_180 0 41 (dk_at dksX6_claim_5 21 rfl rfl)
theorem dX6_claim_137 : decode cX6_claim 137 = .ok (.iload_n 1, 1) := dk_27 (dk_at dksX6_claim_6 0 rfl rfl)
theorem dX6_claim_138 : decode cX6_claim 138 = .ok (.bipush (-2), 2) := dk_16 254 (dk_at dksX6_claim_6 1 rfl rfl)
theorem dX6_claim_140 : decode cX6_claim 140 = .ok (.iastore, 1) := dk_79 (dk_at dksX6_claim_6 3 rfl rfl)
theorem dX6_claim_141 : decode cX6_claim 141 = .ok (.return_, 1) := dk_177 (dk_at dksX6_claim_6 4 rfl rfl)
theorem dX6_claim_142 : decode cX6_claim 142 = .ok (.iload 6, 2) := dk_21 6 (dk_at dksX6_claim_6 5 rfl rfl)
theorem dX6_claim_144 : decode cX6_claim 144 = .ok (.iconst (-1), 1) := dk_2 (dk_at dksX6_claim_6 7 rfl rfl)
theorem dX6_claim_145 : decode cX6_claim 145 = .ok (.if_icmp .eq 12, 3) := dk_159 0 12 (dk_at dksX6_claim_6 8 rfl rfl)
theorem dX6_claim_148 : decode cX6_claim 148 = .ok (.aload_n 0, 1) := dk_42 (dk_at dksX6_claim_6 11 rfl rfl)
theorem dX6_claim_149 : decode cX6_claim 149 = .ok (.getfield 41, 3) := dk_180 0 41 (dk_at dksX6_claim_6 12 rfl rfl)
theorem dX6_claim_152 : decode cX6_claim 152 = .ok (.iload 6, 2) := dk_21 6 (dk_at dksX6_claim_6 15 rfl rfl)
theorem dX6_claim_154 : decode cX6_claim 154 = .ok (.bipush (-2), 2) := dk_16 254 (dk_at dksX6_claim_6 17 rfl rfl)
theorem dX6_claim_156 : decode cX6_claim 156 = .ok (.iastore, 1) := dk_79 (dk_at dksX6_claim_6 19 rfl rfl)
theorem dX6_claim_157 : decode cX6_claim 157 = .ok (.aload_n 0, 1) := dk_42 (dk_at dksX6_claim_6 20 rfl rfl)
theorem dX6_claim_158 : decode cX6_claim 158 = .ok (.getfield 41, 3) := dk_180 0 41 (dk_at dksX6_claim_6 21 rfl rfl)
theorem dX6_claim_161 : decode cX6_claim 161 = .ok (.iload_n 1, 1) := dk_27 (dk_at dksX6_claim_7 0 rfl rfl)
theorem dX6_claim_162 : decode cX6_claim 162 = .ok (.iload_n 2, 1) := dk_28 (dk_at dksX6_claim_7 1 rfl rfl)
theorem dX6_claim_163 : decode cX6_claim 163 = .ok (.iastore, 1) := dk_79 (dk_at dksX6_claim_7 2 rfl rfl)
theorem dX6_claim_164 : decode cX6_claim 164 = .ok (.aload_n 0, 1) := dk_42 (dk_at dksX6_claim_7 3 rfl rfl)
theorem dX6_claim_165 : decode cX6_claim 165 = .ok (.getfield 32, 3) := dk_180 0 32 (dk_at dksX6_claim_7 4 rfl rfl)
theorem dX6_claim_168 : decode cX6_claim 168 = .ok (.iload_n 2, 1) := dk_28 (dk_at dksX6_claim_7 7 rfl rfl)
theorem dX6_claim_169 : decode cX6_claim 169 = .ok (.iload_n 1, 1) := dk_27 (dk_at dksX6_claim_7 8 rfl rfl)
theorem dX6_claim_170 : decode cX6_claim 170 = .ok (.iastore, 1) := dk_79 (dk_at dksX6_claim_7 9 rfl rfl)
theorem dX6_claim_171 : decode cX6_claim 171 = .ok (.return_, 1) := dk_177 (dk_at dksX6_claim_7 10 rfl rfl)
abbrev cX6_checkOf : ByteArray := prog_2_method_7_code
def yX6_checkOf : MethodName := ⟨RX6, "checkOf", "(II)I"⟩
def dkwX6_checkOf_2 : List UInt8 := [172]
abbrev dktX6_checkOf_2 : List UInt8 := dkwX6_checkOf_2 ++ []
def dkwX6_checkOf_1 : List UInt8 := [3, 182, 0, 82, 29, 42, 180, 0, 15, 3, 17, 0, 128, 184, 0, 61, 62, 132, 4, 1, 167, 255, 217, 29]
abbrev dktX6_checkOf_1 : List UInt8 := dkwX6_checkOf_1 ++ dktX6_checkOf_2
def dkwX6_checkOf_0 : List UInt8 := [2, 62, 3, 54, 4, 21, 4, 28, 162, 0, 39, 42, 180, 0, 25, 27, 5, 21, 4, 96, 42, 180, 0, 15]
abbrev dktX6_checkOf_0 : List UInt8 := dkwX6_checkOf_0 ++ dktX6_checkOf_1
theorem dksX6_checkOf_0 : cX6_checkOf.data.toList.drop 0 = dktX6_checkOf_0 := by decide +kernel
theorem dksX6_checkOf_1 : cX6_checkOf.data.toList.drop 24 = dktX6_checkOf_1 := dk_seg dksX6_checkOf_0 24 rfl rfl
theorem dksX6_checkOf_2 : cX6_checkOf.data.toList.drop 48 = dktX6_checkOf_2 := dk_seg dksX6_checkOf_1 24 rfl rfl
theorem dX6_checkOf_0 : decode cX6_checkOf 0 = .ok (.iconst (-1), 1) := dk_2 (dk_at dksX6_checkOf_0 0 rfl rfl)
theorem dX6_checkOf_1 : decode cX6_checkOf 1 = .ok (.istore_n 3, 1) := dk_62 (dk_at dksX6_checkOf_0 1 rfl rfl)
theorem dX6_checkOf_2 : decode cX6_checkOf 2 = .ok (.iconst 0, 1) := dk_3 (dk_at dksX6_checkOf_0 2 rfl rfl)
theorem dX6_checkOf_3 : decode cX6_checkOf 3 = .ok (.istore 4, 2) := dk_54 4 (dk_at dksX6_checkOf_0 3 rfl rfl)
theorem dX6_checkOf_5 : decode cX6_checkOf 5 = .ok (.iload 4, 2) := dk_21 4 (dk_at dksX6_checkOf_0 5 rfl rfl)
theorem dX6_checkOf_7 : decode cX6_checkOf 7 = .ok (.iload_n 2, 1) := dk_28 (dk_at dksX6_checkOf_0 7 rfl rfl)
theorem dX6_checkOf_8 : decode cX6_checkOf 8 = .ok (.if_icmp .ge 39, 3) := dk_162 0 39 (dk_at dksX6_checkOf_0 8 rfl rfl)
theorem dX6_checkOf_11 : decode cX6_checkOf 11 = .ok (.aload_n 0, 1) := dk_42 (dk_at dksX6_checkOf_0 11 rfl rfl)
theorem dX6_checkOf_12 : decode cX6_checkOf 12 = .ok (.getfield 25, 3) := dk_180 0 25 (dk_at dksX6_checkOf_0 12 rfl rfl)
theorem dX6_checkOf_15 : decode cX6_checkOf 15 = .ok (.iload_n 1, 1) := dk_27 (dk_at dksX6_checkOf_0 15 rfl rfl)
theorem dX6_checkOf_16 : decode cX6_checkOf 16 = .ok (.iconst 2, 1) := dk_5 (dk_at dksX6_checkOf_0 16 rfl rfl)
theorem dX6_checkOf_17 : decode cX6_checkOf 17 = .ok (.iload 4, 2) := dk_21 4 (dk_at dksX6_checkOf_0 17 rfl rfl)
theorem dX6_checkOf_19 : decode cX6_checkOf 19 = .ok (.iadd, 1) := dk_96 (dk_at dksX6_checkOf_0 19 rfl rfl)
theorem dX6_checkOf_20 : decode cX6_checkOf 20 = .ok (.aload_n 0, 1) := dk_42 (dk_at dksX6_checkOf_0 20 rfl rfl)
theorem dX6_checkOf_21 : decode cX6_checkOf 21 = .ok (.getfield 15, 3) := dk_180 0 15 (dk_at dksX6_checkOf_0 21 rfl rfl)
theorem dX6_checkOf_24 : decode cX6_checkOf 24 = .ok (.iconst 0, 1) := dk_3 (dk_at dksX6_checkOf_1 0 rfl rfl)
theorem dX6_checkOf_25 : decode cX6_checkOf 25 = .ok (.invokevirtual 82, 3) := dk_182 0 82 (dk_at dksX6_checkOf_1 1 rfl rfl)
theorem dX6_checkOf_28 : decode cX6_checkOf 28 = .ok (.iload_n 3, 1) := dk_29 (dk_at dksX6_checkOf_1 4 rfl rfl)
theorem dX6_checkOf_29 : decode cX6_checkOf 29 = .ok (.aload_n 0, 1) := dk_42 (dk_at dksX6_checkOf_1 5 rfl rfl)
theorem dX6_checkOf_30 : decode cX6_checkOf 30 = .ok (.getfield 15, 3) := dk_180 0 15 (dk_at dksX6_checkOf_1 6 rfl rfl)
theorem dX6_checkOf_33 : decode cX6_checkOf 33 = .ok (.iconst 0, 1) := dk_3 (dk_at dksX6_checkOf_1 9 rfl rfl)
theorem dX6_checkOf_34 : decode cX6_checkOf 34 = .ok (.sipush 128, 3) := dk_17 0 128 (dk_at dksX6_checkOf_1 10 rfl rfl)
theorem dX6_checkOf_37 : decode cX6_checkOf 37 = .ok (.invokestatic 61, 3) := dk_184 0 61 (dk_at dksX6_checkOf_1 13 rfl rfl)
theorem dX6_checkOf_40 : decode cX6_checkOf 40 = .ok (.istore_n 3, 1) := dk_62 (dk_at dksX6_checkOf_1 16 rfl rfl)
theorem dX6_checkOf_41 : decode cX6_checkOf 41 = .ok (.iinc 4 1, 3) := dk_132 4 1 (dk_at dksX6_checkOf_1 17 rfl rfl)
theorem dX6_checkOf_44 : decode cX6_checkOf 44 = .ok (.goto (-39), 3) := dk_167 255 217 (dk_at dksX6_checkOf_1 20 rfl rfl)
theorem dX6_checkOf_47 : decode cX6_checkOf 47 = .ok (.iload_n 3, 1) := dk_29 (dk_at dksX6_checkOf_1 23 rfl rfl)
theorem dX6_checkOf_48 : decode cX6_checkOf 48 = .ok (.ireturn, 1) := dk_172 (dk_at dksX6_checkOf_2 0 rfl rfl)
abbrev cX6_moveStep : ByteArray := prog_2_method_27_code
def yX6_moveStep : MethodName := ⟨RX6, "moveStep", "()Z"⟩
def dkwX6_moveStep_4 : List UInt8 := [182, 0, 202, 4, 172, 42, 182, 0, 190, 4, 172]
abbrev dktX6_moveStep_4 : List UInt8 := dkwX6_moveStep_4 ++ []
def dkwX6_moveStep_3 : List UInt8 := [180, 0, 15, 3, 182, 0, 65, 153, 0, 16, 42, 89, 180, 0, 184, 4, 96, 181, 0, 184, 167, 0, 7, 42]
abbrev dktX6_moveStep_3 : List UInt8 := dkwX6_moveStep_3 ++ dktX6_moveStep_4
def dkwX6_moveStep_2 : List UInt8 := [180, 0, 15, 3, 182, 0, 82, 42, 180, 0, 25, 42, 180, 0, 193, 5, 42, 180, 0, 184, 96, 42]
abbrev dktX6_moveStep_2 : List UInt8 := dkwX6_moveStep_2 ++ dktX6_moveStep_3
def dkwX6_moveStep_1 : List UInt8 := [180, 0, 184, 42, 180, 0, 187, 162, 0, 66, 42, 180, 0, 25, 27, 5, 42, 180, 0, 184, 96, 42]
abbrev dktX6_moveStep_1 : List UInt8 := dkwX6_moveStep_1 ++ dktX6_moveStep_2
def dkwX6_moveStep_0 : List UInt8 := [42, 180, 0, 21, 2, 160, 0, 8, 42, 182, 0, 199, 172, 42, 180, 0, 32, 42, 180, 0, 21, 46, 60, 42]
abbrev dktX6_moveStep_0 : List UInt8 := dkwX6_moveStep_0 ++ dktX6_moveStep_1
theorem dksX6_moveStep_0 : cX6_moveStep.data.toList.drop 0 = dktX6_moveStep_0 := by decide +kernel
theorem dksX6_moveStep_1 : cX6_moveStep.data.toList.drop 24 = dktX6_moveStep_1 := dk_seg dksX6_moveStep_0 24 rfl rfl
theorem dksX6_moveStep_2 : cX6_moveStep.data.toList.drop 46 = dktX6_moveStep_2 := dk_seg dksX6_moveStep_1 22 rfl rfl
theorem dksX6_moveStep_3 : cX6_moveStep.data.toList.drop 68 = dktX6_moveStep_3 := dk_seg dksX6_moveStep_2 22 rfl rfl
theorem dksX6_moveStep_4 : cX6_moveStep.data.toList.drop 92 = dktX6_moveStep_4 := dk_seg dksX6_moveStep_3 24 rfl rfl
theorem dX6_moveStep_0 : decode cX6_moveStep 0 = .ok (.aload_n 0, 1) := dk_42 (dk_at dksX6_moveStep_0 0 rfl rfl)
theorem dX6_moveStep_1 : decode cX6_moveStep 1 = .ok (.getfield 21, 3) := dk_180 0 21 (dk_at dksX6_moveStep_0 1 rfl rfl)
theorem dX6_moveStep_4 : decode cX6_moveStep 4 = .ok (.iconst (-1), 1) := dk_2 (dk_at dksX6_moveStep_0 4 rfl rfl)
theorem dX6_moveStep_5 : decode cX6_moveStep 5 = .ok (.if_icmp .ne 8, 3) := dk_160 0 8 (dk_at dksX6_moveStep_0 5 rfl rfl)
theorem dX6_moveStep_8 : decode cX6_moveStep 8 = .ok (.aload_n 0, 1) := dk_42 (dk_at dksX6_moveStep_0 8 rfl rfl)
theorem dX6_moveStep_9 : decode cX6_moveStep 9 = .ok (.invokevirtual 199, 3) := dk_182 0 199 (dk_at dksX6_moveStep_0 9 rfl rfl)
theorem dX6_moveStep_12 : decode cX6_moveStep 12 = .ok (.ireturn, 1) := dk_172 (dk_at dksX6_moveStep_0 12 rfl rfl)
theorem dX6_moveStep_13 : decode cX6_moveStep 13 = .ok (.aload_n 0, 1) := dk_42 (dk_at dksX6_moveStep_0 13 rfl rfl)
theorem dX6_moveStep_14 : decode cX6_moveStep 14 = .ok (.getfield 32, 3) := dk_180 0 32 (dk_at dksX6_moveStep_0 14 rfl rfl)
theorem dX6_moveStep_17 : decode cX6_moveStep 17 = .ok (.aload_n 0, 1) := dk_42 (dk_at dksX6_moveStep_0 17 rfl rfl)
theorem dX6_moveStep_18 : decode cX6_moveStep 18 = .ok (.getfield 21, 3) := dk_180 0 21 (dk_at dksX6_moveStep_0 18 rfl rfl)
theorem dX6_moveStep_21 : decode cX6_moveStep 21 = .ok (.iaload, 1) := dk_46 (dk_at dksX6_moveStep_0 21 rfl rfl)
theorem dX6_moveStep_22 : decode cX6_moveStep 22 = .ok (.istore_n 1, 1) := dk_60 (dk_at dksX6_moveStep_0 22 rfl rfl)
theorem dX6_moveStep_23 : decode cX6_moveStep 23 = .ok (.aload_n 0, 1) := dk_42 (dk_at dksX6_moveStep_0 23 rfl rfl)
theorem dX6_moveStep_24 : decode cX6_moveStep 24 = .ok (.getfield 184, 3) := dk_180 0 184 (dk_at dksX6_moveStep_1 0 rfl rfl)
theorem dX6_moveStep_27 : decode cX6_moveStep 27 = .ok (.aload_n 0, 1) := dk_42 (dk_at dksX6_moveStep_1 3 rfl rfl)
theorem dX6_moveStep_28 : decode cX6_moveStep 28 = .ok (.getfield 187, 3) := dk_180 0 187 (dk_at dksX6_moveStep_1 4 rfl rfl)
theorem dX6_moveStep_31 : decode cX6_moveStep 31 = .ok (.if_icmp .ge 66, 3) := dk_162 0 66 (dk_at dksX6_moveStep_1 7 rfl rfl)
theorem dX6_moveStep_34 : decode cX6_moveStep 34 = .ok (.aload_n 0, 1) := dk_42 (dk_at dksX6_moveStep_1 10 rfl rfl)
theorem dX6_moveStep_35 : decode cX6_moveStep 35 = .ok (.getfield 25, 3) := dk_180 0 25 (dk_at dksX6_moveStep_1 11 rfl rfl)
theorem dX6_moveStep_38 : decode cX6_moveStep 38 = .ok (.iload_n 1, 1) := dk_27 (dk_at dksX6_moveStep_1 14 rfl rfl)
theorem dX6_moveStep_39 : decode cX6_moveStep 39 = .ok (.iconst 2, 1) := dk_5 (dk_at dksX6_moveStep_1 15 rfl rfl)
theorem dX6_moveStep_40 : decode cX6_moveStep 40 = .ok (.aload_n 0, 1) := dk_42 (dk_at dksX6_moveStep_1 16 rfl rfl)
theorem dX6_moveStep_41 : decode cX6_moveStep 41 = .ok (.getfield 184, 3) := dk_180 0 184 (dk_at dksX6_moveStep_1 17 rfl rfl)
theorem dX6_moveStep_44 : decode cX6_moveStep 44 = .ok (.iadd, 1) := dk_96 (dk_at dksX6_moveStep_1 20 rfl rfl)
theorem dX6_moveStep_45 : decode cX6_moveStep 45 = .ok (.aload_n 0, 1) := dk_42 (dk_at dksX6_moveStep_1 21 rfl rfl)
theorem dX6_moveStep_46 : decode cX6_moveStep 46 = .ok (.getfield 15, 3) := dk_180 0 15 (dk_at dksX6_moveStep_2 0 rfl rfl)
theorem dX6_moveStep_49 : decode cX6_moveStep 49 = .ok (.iconst 0, 1) := dk_3 (dk_at dksX6_moveStep_2 3 rfl rfl)
theorem dX6_moveStep_50 : decode cX6_moveStep 50 = .ok (.invokevirtual 82, 3) := dk_182 0 82 (dk_at dksX6_moveStep_2 4 rfl rfl)
theorem dX6_moveStep_53 : decode cX6_moveStep 53 = .ok (.aload_n 0, 1) := dk_42 (dk_at dksX6_moveStep_2 7 rfl rfl)
theorem dX6_moveStep_54 : decode cX6_moveStep 54 = .ok (.getfield 25, 3) := dk_180 0 25 (dk_at dksX6_moveStep_2 8 rfl rfl)
theorem dX6_moveStep_57 : decode cX6_moveStep 57 = .ok (.aload_n 0, 1) := dk_42 (dk_at dksX6_moveStep_2 11 rfl rfl)
theorem dX6_moveStep_58 : decode cX6_moveStep 58 = .ok (.getfield 193, 3) := dk_180 0 193 (dk_at dksX6_moveStep_2 12 rfl rfl)
theorem dX6_moveStep_61 : decode cX6_moveStep 61 = .ok (.iconst 2, 1) := dk_5 (dk_at dksX6_moveStep_2 15 rfl rfl)
theorem dX6_moveStep_62 : decode cX6_moveStep 62 = .ok (.aload_n 0, 1) := dk_42 (dk_at dksX6_moveStep_2 16 rfl rfl)
theorem dX6_moveStep_63 : decode cX6_moveStep 63 = .ok (.getfield 184, 3) := dk_180 0 184 (dk_at dksX6_moveStep_2 17 rfl rfl)
theorem dX6_moveStep_66 : decode cX6_moveStep 66 = .ok (.iadd, 1) := dk_96 (dk_at dksX6_moveStep_2 20 rfl rfl)
theorem dX6_moveStep_67 : decode cX6_moveStep 67 = .ok (.aload_n 0, 1) := dk_42 (dk_at dksX6_moveStep_2 21 rfl rfl)
theorem dX6_moveStep_68 : decode cX6_moveStep 68 = .ok (.getfield 15, 3) := dk_180 0 15 (dk_at dksX6_moveStep_3 0 rfl rfl)
theorem dX6_moveStep_71 : decode cX6_moveStep 71 = .ok (.iconst 0, 1) := dk_3 (dk_at dksX6_moveStep_3 3 rfl rfl)
theorem dX6_moveStep_72 : decode cX6_moveStep 72 = .ok (.invokevirtual 65, 3) := dk_182 0 65 (dk_at dksX6_moveStep_3 4 rfl rfl)
theorem dX6_moveStep_75 : decode cX6_moveStep 75 = .ok (.ifCond .eq 16, 3) := dk_153 0 16 (dk_at dksX6_moveStep_3 7 rfl rfl)
theorem dX6_moveStep_78 : decode cX6_moveStep 78 = .ok (.aload_n 0, 1) := dk_42 (dk_at dksX6_moveStep_3 10 rfl rfl)
theorem dX6_moveStep_79 : decode cX6_moveStep 79 = .ok (.dup, 1) := dk_89 (dk_at dksX6_moveStep_3 11 rfl rfl)
theorem dX6_moveStep_80 : decode cX6_moveStep 80 = .ok (.getfield 184, 3) := dk_180 0 184 (dk_at dksX6_moveStep_3 12 rfl rfl)
theorem dX6_moveStep_83 : decode cX6_moveStep 83 = .ok (.iconst 1, 1) := dk_4 (dk_at dksX6_moveStep_3 15 rfl rfl)
theorem dX6_moveStep_84 : decode cX6_moveStep 84 = .ok (.iadd, 1) := dk_96 (dk_at dksX6_moveStep_3 16 rfl rfl)
theorem dX6_moveStep_85 : decode cX6_moveStep 85 = .ok (.putfield 184, 3) := dk_181 0 184 (dk_at dksX6_moveStep_3 17 rfl rfl)
theorem dX6_moveStep_88 : decode cX6_moveStep 88 = .ok (.goto 7, 3) := dk_167 0 7 (dk_at dksX6_moveStep_3 20 rfl rfl)
theorem dX6_moveStep_91 : decode cX6_moveStep 91 = .ok (.aload_n 0, 1) := dk_42 (dk_at dksX6_moveStep_3 23 rfl rfl)
theorem dX6_moveStep_92 : decode cX6_moveStep 92 = .ok (.invokevirtual 202, 3) := dk_182 0 202 (dk_at dksX6_moveStep_4 0 rfl rfl)
theorem dX6_moveStep_95 : decode cX6_moveStep 95 = .ok (.iconst 1, 1) := dk_4 (dk_at dksX6_moveStep_4 3 rfl rfl)
theorem dX6_moveStep_96 : decode cX6_moveStep 96 = .ok (.ireturn, 1) := dk_172 (dk_at dksX6_moveStep_4 4 rfl rfl)
theorem dX6_moveStep_97 : decode cX6_moveStep 97 = .ok (.aload_n 0, 1) := dk_42 (dk_at dksX6_moveStep_4 5 rfl rfl)
theorem dX6_moveStep_98 : decode cX6_moveStep 98 = .ok (.invokevirtual 190, 3) := dk_182 0 190 (dk_at dksX6_moveStep_4 6 rfl rfl)
theorem dX6_moveStep_101 : decode cX6_moveStep 101 = .ok (.iconst 1, 1) := dk_4 (dk_at dksX6_moveStep_4 9 rfl rfl)
theorem dX6_moveStep_102 : decode cX6_moveStep 102 = .ok (.ireturn, 1) := dk_172 (dk_at dksX6_moveStep_4 10 rfl rfl)
abbrev cX6_beginMove : ByteArray := prog_2_method_29_code
def yX6_beginMove : MethodName := ⟨RX6, "beginMove", "()Z"⟩
def dkwX6_beginMove_4 : List UInt8 := [180, 0, 187, 42, 28, 42, 180, 0, 187, 182, 0, 210, 182, 0, 162, 154, 0, 7, 42, 182, 0, 202, 4, 172]
abbrev dktX6_beginMove_4 : List UInt8 := dkwX6_beginMove_4 ++ []
def dkwX6_beginMove_3 : List UInt8 := [181, 0, 21, 42, 180, 0, 41, 42, 180, 0, 193, 16, 253, 79, 42, 42, 180, 0, 193, 27, 4, 42]
abbrev dktX6_beginMove_3 : List UInt8 := dkwX6_beginMove_3 ++ dktX6_beginMove_4
def dkwX6_beginMove_2 : List UInt8 := [182, 0, 133, 181, 0, 193, 42, 42, 27, 182, 0, 147, 181, 0, 187, 42, 3, 181, 0, 184, 42, 27]
abbrev dktX6_beginMove_2 : List UInt8 := dkwX6_beginMove_2 ++ dktX6_beginMove_3
def dkwX6_beginMove_1 : List UInt8 := [180, 0, 32, 27, 46, 61, 42, 42, 42, 180, 0, 25, 28, 182, 0, 196, 154, 0, 7, 4, 167, 0, 4, 3]
abbrev dktX6_beginMove_1 : List UInt8 := dkwX6_beginMove_1 ++ dktX6_beginMove_2
def dkwX6_beginMove_0 : List UInt8 := [42, 2, 182, 0, 205, 5, 162, 0, 5, 3, 172, 42, 182, 0, 208, 60, 27, 2, 160, 0, 5, 3, 172, 42]
abbrev dktX6_beginMove_0 : List UInt8 := dkwX6_beginMove_0 ++ dktX6_beginMove_1
theorem dksX6_beginMove_0 : cX6_beginMove.data.toList.drop 0 = dktX6_beginMove_0 := by decide +kernel
theorem dksX6_beginMove_1 : cX6_beginMove.data.toList.drop 24 = dktX6_beginMove_1 := dk_seg dksX6_beginMove_0 24 rfl rfl
theorem dksX6_beginMove_2 : cX6_beginMove.data.toList.drop 48 = dktX6_beginMove_2 := dk_seg dksX6_beginMove_1 24 rfl rfl
theorem dksX6_beginMove_3 : cX6_beginMove.data.toList.drop 70 = dktX6_beginMove_3 := dk_seg dksX6_beginMove_2 22 rfl rfl
theorem dksX6_beginMove_4 : cX6_beginMove.data.toList.drop 92 = dktX6_beginMove_4 := dk_seg dksX6_beginMove_3 22 rfl rfl
theorem dX6_beginMove_0 : decode cX6_beginMove 0 = .ok (.aload_n 0, 1) := dk_42 (dk_at dksX6_beginMove_0 0 rfl rfl)
theorem dX6_beginMove_1 : decode cX6_beginMove 1 = .ok (.iconst (-1), 1) := dk_2 (dk_at dksX6_beginMove_0 1 rfl rfl)
theorem dX6_beginMove_2 : decode cX6_beginMove 2 = .ok (.invokevirtual 205, 3) := dk_182 0 205 (dk_at dksX6_beginMove_0 2 rfl rfl)
theorem dX6_beginMove_5 : decode cX6_beginMove 5 = .ok (.iconst 2, 1) := dk_5 (dk_at dksX6_beginMove_0 5 rfl rfl)
theorem dX6_beginMove_6 : decode cX6_beginMove 6 = .ok (.if_icmp .ge 5, 3) := dk_162 0 5 (dk_at dksX6_beginMove_0 6 rfl rfl)
theorem dX6_beginMove_9 : decode cX6_beginMove 9 = .ok (.iconst 0, 1) := dk_3 (dk_at dksX6_beginMove_0 9 rfl rfl)
theorem dX6_beginMove_10 : decode cX6_beginMove 10 = .ok (.ireturn, 1) := dk_172 (dk_at dksX6_beginMove_0 10 rfl rfl)
theorem dX6_beginMove_11 : decode cX6_beginMove 11 = .ok (.aload_n 0, 1) := dk_42 (dk_at dksX6_beginMove_0 11 rfl rfl)
theorem dX6_beginMove_12 : decode cX6_beginMove 12 = .ok (.invokevirtual 208, 3) := dk_182 0 208 (dk_at dksX6_beginMove_0 12 rfl rfl)
theorem dX6_beginMove_15 : decode cX6_beginMove 15 = .ok (.istore_n 1, 1) := dk_60 (dk_at dksX6_beginMove_0 15 rfl rfl)
theorem dX6_beginMove_16 : decode cX6_beginMove 16 = .ok (.iload_n 1, 1) := dk_27 (dk_at dksX6_beginMove_0 16 rfl rfl)
theorem dX6_beginMove_17 : decode cX6_beginMove 17 = .ok (.iconst (-1), 1) := dk_2 (dk_at dksX6_beginMove_0 17 rfl rfl)
theorem dX6_beginMove_18 : decode cX6_beginMove 18 = .ok (.if_icmp .ne 5, 3) := dk_160 0 5 (dk_at dksX6_beginMove_0 18 rfl rfl)
theorem dX6_beginMove_21 : decode cX6_beginMove 21 = .ok (.iconst 0, 1) := dk_3 (dk_at dksX6_beginMove_0 21 rfl rfl)
theorem dX6_beginMove_22 : decode cX6_beginMove 22 = .ok (.ireturn, 1) := dk_172 (dk_at dksX6_beginMove_0 22 rfl rfl)
theorem dX6_beginMove_23 : decode cX6_beginMove 23 = .ok (.aload_n 0, 1) := dk_42 (dk_at dksX6_beginMove_0 23 rfl rfl)
theorem dX6_beginMove_24 : decode cX6_beginMove 24 = .ok (.getfield 32, 3) := dk_180 0 32 (dk_at dksX6_beginMove_1 0 rfl rfl)
theorem dX6_beginMove_27 : decode cX6_beginMove 27 = .ok (.iload_n 1, 1) := dk_27 (dk_at dksX6_beginMove_1 3 rfl rfl)
theorem dX6_beginMove_28 : decode cX6_beginMove 28 = .ok (.iaload, 1) := dk_46 (dk_at dksX6_beginMove_1 4 rfl rfl)
theorem dX6_beginMove_29 : decode cX6_beginMove 29 = .ok (.istore_n 2, 1) := dk_61 (dk_at dksX6_beginMove_1 5 rfl rfl)
theorem dX6_beginMove_30 : decode cX6_beginMove 30 = .ok (.aload_n 0, 1) := dk_42 (dk_at dksX6_beginMove_1 6 rfl rfl)
theorem dX6_beginMove_31 : decode cX6_beginMove 31 = .ok (.aload_n 0, 1) := dk_42 (dk_at dksX6_beginMove_1 7 rfl rfl)
theorem dX6_beginMove_32 : decode cX6_beginMove 32 = .ok (.aload_n 0, 1) := dk_42 (dk_at dksX6_beginMove_1 8 rfl rfl)
theorem dX6_beginMove_33 : decode cX6_beginMove 33 = .ok (.getfield 25, 3) := dk_180 0 25 (dk_at dksX6_beginMove_1 9 rfl rfl)
theorem dX6_beginMove_36 : decode cX6_beginMove 36 = .ok (.iload_n 2, 1) := dk_28 (dk_at dksX6_beginMove_1 12 rfl rfl)
theorem dX6_beginMove_37 : decode cX6_beginMove 37 = .ok (.invokevirtual 196, 3) := dk_182 0 196 (dk_at dksX6_beginMove_1 13 rfl rfl)
theorem dX6_beginMove_40 : decode cX6_beginMove 40 = .ok (.ifCond .ne 7, 3) := dk_154 0 7 (dk_at dksX6_beginMove_1 16 rfl rfl)
theorem dX6_beginMove_43 : decode cX6_beginMove 43 = .ok (.iconst 1, 1) := dk_4 (dk_at dksX6_beginMove_1 19 rfl rfl)
theorem dX6_beginMove_44 : decode cX6_beginMove 44 = .ok (.goto 4, 3) := dk_167 0 4 (dk_at dksX6_beginMove_1 20 rfl rfl)
theorem dX6_beginMove_47 : decode cX6_beginMove 47 = .ok (.iconst 0, 1) := dk_3 (dk_at dksX6_beginMove_1 23 rfl rfl)
theorem dX6_beginMove_48 : decode cX6_beginMove 48 = .ok (.invokevirtual 133, 3) := dk_182 0 133 (dk_at dksX6_beginMove_2 0 rfl rfl)
theorem dX6_beginMove_51 : decode cX6_beginMove 51 = .ok (.putfield 193, 3) := dk_181 0 193 (dk_at dksX6_beginMove_2 3 rfl rfl)
theorem dX6_beginMove_54 : decode cX6_beginMove 54 = .ok (.aload_n 0, 1) := dk_42 (dk_at dksX6_beginMove_2 6 rfl rfl)
theorem dX6_beginMove_55 : decode cX6_beginMove 55 = .ok (.aload_n 0, 1) := dk_42 (dk_at dksX6_beginMove_2 7 rfl rfl)
theorem dX6_beginMove_56 : decode cX6_beginMove 56 = .ok (.iload_n 1, 1) := dk_27 (dk_at dksX6_beginMove_2 8 rfl rfl)
theorem dX6_beginMove_57 : decode cX6_beginMove 57 = .ok (.invokevirtual 147, 3) := dk_182 0 147 (dk_at dksX6_beginMove_2 9 rfl rfl)
theorem dX6_beginMove_60 : decode cX6_beginMove 60 = .ok (.putfield 187, 3) := dk_181 0 187 (dk_at dksX6_beginMove_2 12 rfl rfl)
theorem dX6_beginMove_63 : decode cX6_beginMove 63 = .ok (.aload_n 0, 1) := dk_42 (dk_at dksX6_beginMove_2 15 rfl rfl)
theorem dX6_beginMove_64 : decode cX6_beginMove 64 = .ok (.iconst 0, 1) := dk_3 (dk_at dksX6_beginMove_2 16 rfl rfl)
theorem dX6_beginMove_65 : decode cX6_beginMove 65 = .ok (.putfield 184, 3) := dk_181 0 184 (dk_at dksX6_beginMove_2 17 rfl rfl)
theorem dX6_beginMove_68 : decode cX6_beginMove 68 = .ok (.aload_n 0, 1) := dk_42 (dk_at dksX6_beginMove_2 20 rfl rfl)
theorem dX6_beginMove_69 : decode cX6_beginMove 69 = .ok (.iload_n 1, 1) := dk_27 (dk_at dksX6_beginMove_2 21 rfl rfl)
theorem dX6_beginMove_70 : decode cX6_beginMove 70 = .ok (.putfield 21, 3) := dk_181 0 21 (dk_at dksX6_beginMove_3 0 rfl rfl)
theorem dX6_beginMove_73 : decode cX6_beginMove 73 = .ok (.aload_n 0, 1) := dk_42 (dk_at dksX6_beginMove_3 3 rfl rfl)
theorem dX6_beginMove_74 : decode cX6_beginMove 74 = .ok (.getfield 41, 3) := dk_180 0 41 (dk_at dksX6_beginMove_3 4 rfl rfl)
theorem dX6_beginMove_77 : decode cX6_beginMove 77 = .ok (.aload_n 0, 1) := dk_42 (dk_at dksX6_beginMove_3 7 rfl rfl)
theorem dX6_beginMove_78 : decode cX6_beginMove 78 = .ok (.getfield 193, 3) := dk_180 0 193 (dk_at dksX6_beginMove_3 8 rfl rfl)
theorem dX6_beginMove_81 : decode cX6_beginMove 81 = .ok (.bipush (-3), 2) := dk_16 253 (dk_at dksX6_beginMove_3 11 rfl rfl)
theorem dX6_beginMove_83 : decode cX6_beginMove 83 = .ok (.iastore, 1) := dk_79 (dk_at dksX6_beginMove_3 13 rfl rfl)
theorem dX6_beginMove_84 : decode cX6_beginMove 84 = .ok (.aload_n 0, 1) := dk_42 (dk_at dksX6_beginMove_3 14 rfl rfl)
theorem dX6_beginMove_85 : decode cX6_beginMove 85 = .ok (.aload_n 0, 1) := dk_42 (dk_at dksX6_beginMove_3 15 rfl rfl)
theorem dX6_beginMove_86 : decode cX6_beginMove 86 = .ok (.getfield 193, 3) := dk_180 0 193 (dk_at dksX6_beginMove_3 16 rfl rfl)
theorem dX6_beginMove_89 : decode cX6_beginMove 89 = .ok (.iload_n 1, 1) := dk_27 (dk_at dksX6_beginMove_3 19 rfl rfl)
theorem dX6_beginMove_90 : decode cX6_beginMove 90 = .ok (.iconst 1, 1) := dk_4 (dk_at dksX6_beginMove_3 20 rfl rfl)
theorem dX6_beginMove_91 : decode cX6_beginMove 91 = .ok (.aload_n 0, 1) := dk_42 (dk_at dksX6_beginMove_3 21 rfl rfl)
theorem dX6_beginMove_92 : decode cX6_beginMove 92 = .ok (.getfield 187, 3) := dk_180 0 187 (dk_at dksX6_beginMove_4 0 rfl rfl)
theorem dX6_beginMove_95 : decode cX6_beginMove 95 = .ok (.aload_n 0, 1) := dk_42 (dk_at dksX6_beginMove_4 3 rfl rfl)
theorem dX6_beginMove_96 : decode cX6_beginMove 96 = .ok (.iload_n 2, 1) := dk_28 (dk_at dksX6_beginMove_4 4 rfl rfl)
theorem dX6_beginMove_97 : decode cX6_beginMove 97 = .ok (.aload_n 0, 1) := dk_42 (dk_at dksX6_beginMove_4 5 rfl rfl)
theorem dX6_beginMove_98 : decode cX6_beginMove 98 = .ok (.getfield 187, 3) := dk_180 0 187 (dk_at dksX6_beginMove_4 6 rfl rfl)
theorem dX6_beginMove_101 : decode cX6_beginMove 101 = .ok (.invokevirtual 210, 3) := dk_182 0 210 (dk_at dksX6_beginMove_4 9 rfl rfl)
theorem dX6_beginMove_104 : decode cX6_beginMove 104 = .ok (.invokevirtual 162, 3) := dk_182 0 162 (dk_at dksX6_beginMove_4 12 rfl rfl)
theorem dX6_beginMove_107 : decode cX6_beginMove 107 = .ok (.ifCond .ne 7, 3) := dk_154 0 7 (dk_at dksX6_beginMove_4 15 rfl rfl)
theorem dX6_beginMove_110 : decode cX6_beginMove 110 = .ok (.aload_n 0, 1) := dk_42 (dk_at dksX6_beginMove_4 18 rfl rfl)
theorem dX6_beginMove_111 : decode cX6_beginMove 111 = .ok (.invokevirtual 202, 3) := dk_182 0 202 (dk_at dksX6_beginMove_4 19 rfl rfl)
theorem dX6_beginMove_114 : decode cX6_beginMove 114 = .ok (.iconst 1, 1) := dk_4 (dk_at dksX6_beginMove_4 22 rfl rfl)
theorem dX6_beginMove_115 : decode cX6_beginMove 115 = .ok (.ireturn, 1) := dk_172 (dk_at dksX6_beginMove_4 23 rfl rfl)
abbrev cX6_count : ByteArray := prog_2_method_12_code
def yX6_count : MethodName := ⟨RX6, "count", "(I)I"⟩
def dkwX6_count_1 : List UInt8 := [160, 0, 7, 4, 167, 0, 4, 3, 96, 61, 132, 3, 1, 167, 255, 224, 28, 172]
abbrev dktX6_count_1 : List UInt8 := dkwX6_count_1 ++ []
def dkwX6_count_0 : List UInt8 := [3, 61, 3, 62, 29, 42, 180, 0, 25, 180, 0, 36, 162, 0, 27, 28, 42, 180, 0, 41, 29, 46, 27]
abbrev dktX6_count_0 : List UInt8 := dkwX6_count_0 ++ dktX6_count_1
theorem dksX6_count_0 : cX6_count.data.toList.drop 0 = dktX6_count_0 := by decide +kernel
theorem dksX6_count_1 : cX6_count.data.toList.drop 23 = dktX6_count_1 := dk_seg dksX6_count_0 23 rfl rfl
theorem dX6_count_0 : decode cX6_count 0 = .ok (.iconst 0, 1) := dk_3 (dk_at dksX6_count_0 0 rfl rfl)
theorem dX6_count_1 : decode cX6_count 1 = .ok (.istore_n 2, 1) := dk_61 (dk_at dksX6_count_0 1 rfl rfl)
theorem dX6_count_2 : decode cX6_count 2 = .ok (.iconst 0, 1) := dk_3 (dk_at dksX6_count_0 2 rfl rfl)
theorem dX6_count_3 : decode cX6_count 3 = .ok (.istore_n 3, 1) := dk_62 (dk_at dksX6_count_0 3 rfl rfl)
theorem dX6_count_4 : decode cX6_count 4 = .ok (.iload_n 3, 1) := dk_29 (dk_at dksX6_count_0 4 rfl rfl)
theorem dX6_count_5 : decode cX6_count 5 = .ok (.aload_n 0, 1) := dk_42 (dk_at dksX6_count_0 5 rfl rfl)
theorem dX6_count_6 : decode cX6_count 6 = .ok (.getfield 25, 3) := dk_180 0 25 (dk_at dksX6_count_0 6 rfl rfl)
theorem dX6_count_9 : decode cX6_count 9 = .ok (.getfield 36, 3) := dk_180 0 36 (dk_at dksX6_count_0 9 rfl rfl)
theorem dX6_count_12 : decode cX6_count 12 = .ok (.if_icmp .ge 27, 3) := dk_162 0 27 (dk_at dksX6_count_0 12 rfl rfl)
theorem dX6_count_15 : decode cX6_count 15 = .ok (.iload_n 2, 1) := dk_28 (dk_at dksX6_count_0 15 rfl rfl)
theorem dX6_count_16 : decode cX6_count 16 = .ok (.aload_n 0, 1) := dk_42 (dk_at dksX6_count_0 16 rfl rfl)
theorem dX6_count_17 : decode cX6_count 17 = .ok (.getfield 41, 3) := dk_180 0 41 (dk_at dksX6_count_0 17 rfl rfl)
theorem dX6_count_20 : decode cX6_count 20 = .ok (.iload_n 3, 1) := dk_29 (dk_at dksX6_count_0 20 rfl rfl)
theorem dX6_count_21 : decode cX6_count 21 = .ok (.iaload, 1) := dk_46 (dk_at dksX6_count_0 21 rfl rfl)
theorem dX6_count_22 : decode cX6_count 22 = .ok (.iload_n 1, 1) := dk_27 (dk_at dksX6_count_0 22 rfl rfl)
theorem dX6_count_23 : decode cX6_count 23 = .ok (.if_icmp .ne 7, 3) := dk_160 0 7 (dk_at dksX6_count_1 0 rfl rfl)
theorem dX6_count_26 : decode cX6_count 26 = .ok (.iconst 1, 1) := dk_4 (dk_at dksX6_count_1 3 rfl rfl)
theorem dX6_count_27 : decode cX6_count 27 = .ok (.goto 4, 3) := dk_167 0 4 (dk_at dksX6_count_1 4 rfl rfl)
theorem dX6_count_30 : decode cX6_count 30 = .ok (.iconst 0, 1) := dk_3 (dk_at dksX6_count_1 7 rfl rfl)
theorem dX6_count_31 : decode cX6_count 31 = .ok (.iadd, 1) := dk_96 (dk_at dksX6_count_1 8 rfl rfl)
theorem dX6_count_32 : decode cX6_count 32 = .ok (.istore_n 2, 1) := dk_61 (dk_at dksX6_count_1 9 rfl rfl)
theorem dX6_count_33 : decode cX6_count 33 = .ok (.iinc 3 1, 3) := dk_132 3 1 (dk_at dksX6_count_1 10 rfl rfl)
theorem dX6_count_36 : decode cX6_count 36 = .ok (.goto (-32), 3) := dk_167 255 224 (dk_at dksX6_count_1 13 rfl rfl)
theorem dX6_count_39 : decode cX6_count 39 = .ok (.iload_n 2, 1) := dk_28 (dk_at dksX6_count_1 16 rfl rfl)
theorem dX6_count_40 : decode cX6_count 40 = .ok (.ireturn, 1) := dk_172 (dk_at dksX6_count_1 17 rfl rfl)
abbrev cX6_toMove : ByteArray := prog_2_method_26_code
def yX6_toMove : MethodName := ⟨RX6, "toMove", "()I"⟩
def dkwX6_toMove_5 : List UInt8 := [161, 0, 7, 27, 167, 0, 4, 2, 172]
abbrev dktX6_toMove_5 : List UInt8 := dkwX6_toMove_5 ++ []
def dkwX6_toMove_4 : List UInt8 := [2, 159, 0, 29, 42, 180, 0, 44, 28, 46, 42, 180, 0, 44, 42, 180, 0, 32, 27, 46, 46, 100, 7]
abbrev dktX6_toMove_4 : List UInt8 := dkwX6_toMove_4 ++ dktX6_toMove_5
def dkwX6_toMove_3 : List UInt8 := [46, 162, 0, 5, 28, 60, 132, 2, 1, 167, 255, 182, 42, 4, 182, 0, 133, 61, 27, 2, 159, 0, 34, 28]
abbrev dktX6_toMove_3 : List UInt8 := dkwX6_toMove_3 ++ dktX6_toMove_4
def dkwX6_toMove_2 : List UInt8 := [159, 0, 28, 42, 180, 0, 44, 42, 180, 0, 32, 28, 46, 46, 42, 180, 0, 44, 42, 180, 0, 32, 27, 46]
abbrev dktX6_toMove_2 : List UInt8 := dkwX6_toMove_2 ++ dktX6_toMove_3
def dkwX6_toMove_1 : List UInt8 := [167, 0, 53, 42, 180, 0, 25, 42, 180, 0, 32, 28, 46, 182, 0, 196, 153, 0, 5, 28, 172, 27, 2]
abbrev dktX6_toMove_1 : List UInt8 := dkwX6_toMove_1 ++ dktX6_toMove_2
def dkwX6_toMove_0 : List UInt8 := [2, 60, 3, 61, 28, 42, 180, 0, 29, 162, 0, 72, 42, 180, 0, 32, 28, 46, 2, 160, 0, 6]
abbrev dktX6_toMove_0 : List UInt8 := dkwX6_toMove_0 ++ dktX6_toMove_1
theorem dksX6_toMove_0 : cX6_toMove.data.toList.drop 0 = dktX6_toMove_0 := by decide +kernel
theorem dksX6_toMove_1 : cX6_toMove.data.toList.drop 22 = dktX6_toMove_1 := dk_seg dksX6_toMove_0 22 rfl rfl
theorem dksX6_toMove_2 : cX6_toMove.data.toList.drop 45 = dktX6_toMove_2 := dk_seg dksX6_toMove_1 23 rfl rfl
theorem dksX6_toMove_3 : cX6_toMove.data.toList.drop 69 = dktX6_toMove_3 := dk_seg dksX6_toMove_2 24 rfl rfl
theorem dksX6_toMove_4 : cX6_toMove.data.toList.drop 93 = dktX6_toMove_4 := dk_seg dksX6_toMove_3 24 rfl rfl
theorem dksX6_toMove_5 : cX6_toMove.data.toList.drop 116 = dktX6_toMove_5 := dk_seg dksX6_toMove_4 23 rfl rfl
theorem dX6_toMove_0 : decode cX6_toMove 0 = .ok (.iconst (-1), 1) := dk_2 (dk_at dksX6_toMove_0 0 rfl rfl)
theorem dX6_toMove_1 : decode cX6_toMove 1 = .ok (.istore_n 1, 1) := dk_60 (dk_at dksX6_toMove_0 1 rfl rfl)
theorem dX6_toMove_2 : decode cX6_toMove 2 = .ok (.iconst 0, 1) := dk_3 (dk_at dksX6_toMove_0 2 rfl rfl)
theorem dX6_toMove_3 : decode cX6_toMove 3 = .ok (.istore_n 2, 1) := dk_61 (dk_at dksX6_toMove_0 3 rfl rfl)
theorem dX6_toMove_4 : decode cX6_toMove 4 = .ok (.iload_n 2, 1) := dk_28 (dk_at dksX6_toMove_0 4 rfl rfl)
theorem dX6_toMove_5 : decode cX6_toMove 5 = .ok (.aload_n 0, 1) := dk_42 (dk_at dksX6_toMove_0 5 rfl rfl)
theorem dX6_toMove_6 : decode cX6_toMove 6 = .ok (.getfield 29, 3) := dk_180 0 29 (dk_at dksX6_toMove_0 6 rfl rfl)
theorem dX6_toMove_9 : decode cX6_toMove 9 = .ok (.if_icmp .ge 72, 3) := dk_162 0 72 (dk_at dksX6_toMove_0 9 rfl rfl)
theorem dX6_toMove_12 : decode cX6_toMove 12 = .ok (.aload_n 0, 1) := dk_42 (dk_at dksX6_toMove_0 12 rfl rfl)
theorem dX6_toMove_13 : decode cX6_toMove 13 = .ok (.getfield 32, 3) := dk_180 0 32 (dk_at dksX6_toMove_0 13 rfl rfl)
theorem dX6_toMove_16 : decode cX6_toMove 16 = .ok (.iload_n 2, 1) := dk_28 (dk_at dksX6_toMove_0 16 rfl rfl)
theorem dX6_toMove_17 : decode cX6_toMove 17 = .ok (.iaload, 1) := dk_46 (dk_at dksX6_toMove_0 17 rfl rfl)
theorem dX6_toMove_18 : decode cX6_toMove 18 = .ok (.iconst (-1), 1) := dk_2 (dk_at dksX6_toMove_0 18 rfl rfl)
theorem dX6_toMove_19 : decode cX6_toMove 19 = .ok (.if_icmp .ne 6, 3) := dk_160 0 6 (dk_at dksX6_toMove_0 19 rfl rfl)
theorem dX6_toMove_22 : decode cX6_toMove 22 = .ok (.goto 53, 3) := dk_167 0 53 (dk_at dksX6_toMove_1 0 rfl rfl)
theorem dX6_toMove_25 : decode cX6_toMove 25 = .ok (.aload_n 0, 1) := dk_42 (dk_at dksX6_toMove_1 3 rfl rfl)
theorem dX6_toMove_26 : decode cX6_toMove 26 = .ok (.getfield 25, 3) := dk_180 0 25 (dk_at dksX6_toMove_1 4 rfl rfl)
theorem dX6_toMove_29 : decode cX6_toMove 29 = .ok (.aload_n 0, 1) := dk_42 (dk_at dksX6_toMove_1 7 rfl rfl)
theorem dX6_toMove_30 : decode cX6_toMove 30 = .ok (.getfield 32, 3) := dk_180 0 32 (dk_at dksX6_toMove_1 8 rfl rfl)
theorem dX6_toMove_33 : decode cX6_toMove 33 = .ok (.iload_n 2, 1) := dk_28 (dk_at dksX6_toMove_1 11 rfl rfl)
theorem dX6_toMove_34 : decode cX6_toMove 34 = .ok (.iaload, 1) := dk_46 (dk_at dksX6_toMove_1 12 rfl rfl)
theorem dX6_toMove_35 : decode cX6_toMove 35 = .ok (.invokevirtual 196, 3) := dk_182 0 196 (dk_at dksX6_toMove_1 13 rfl rfl)
theorem dX6_toMove_38 : decode cX6_toMove 38 = .ok (.ifCond .eq 5, 3) := dk_153 0 5 (dk_at dksX6_toMove_1 16 rfl rfl)
theorem dX6_toMove_41 : decode cX6_toMove 41 = .ok (.iload_n 2, 1) := dk_28 (dk_at dksX6_toMove_1 19 rfl rfl)
theorem dX6_toMove_42 : decode cX6_toMove 42 = .ok (.ireturn, 1) := dk_172 (dk_at dksX6_toMove_1 20 rfl rfl)
theorem dX6_toMove_43 : decode cX6_toMove 43 = .ok (.iload_n 1, 1) := dk_27 (dk_at dksX6_toMove_1 21 rfl rfl)
theorem dX6_toMove_44 : decode cX6_toMove 44 = .ok (.iconst (-1), 1) := dk_2 (dk_at dksX6_toMove_1 22 rfl rfl)
theorem dX6_toMove_45 : decode cX6_toMove 45 = .ok (.if_icmp .eq 28, 3) := dk_159 0 28 (dk_at dksX6_toMove_2 0 rfl rfl)
theorem dX6_toMove_48 : decode cX6_toMove 48 = .ok (.aload_n 0, 1) := dk_42 (dk_at dksX6_toMove_2 3 rfl rfl)
theorem dX6_toMove_49 : decode cX6_toMove 49 = .ok (.getfield 44, 3) := dk_180 0 44 (dk_at dksX6_toMove_2 4 rfl rfl)
theorem dX6_toMove_52 : decode cX6_toMove 52 = .ok (.aload_n 0, 1) := dk_42 (dk_at dksX6_toMove_2 7 rfl rfl)
theorem dX6_toMove_53 : decode cX6_toMove 53 = .ok (.getfield 32, 3) := dk_180 0 32 (dk_at dksX6_toMove_2 8 rfl rfl)
theorem dX6_toMove_56 : decode cX6_toMove 56 = .ok (.iload_n 2, 1) := dk_28 (dk_at dksX6_toMove_2 11 rfl rfl)
theorem dX6_toMove_57 : decode cX6_toMove 57 = .ok (.iaload, 1) := dk_46 (dk_at dksX6_toMove_2 12 rfl rfl)
theorem dX6_toMove_58 : decode cX6_toMove 58 = .ok (.iaload, 1) := dk_46 (dk_at dksX6_toMove_2 13 rfl rfl)
theorem dX6_toMove_59 : decode cX6_toMove 59 = .ok (.aload_n 0, 1) := dk_42 (dk_at dksX6_toMove_2 14 rfl rfl)
theorem dX6_toMove_60 : decode cX6_toMove 60 = .ok (.getfield 44, 3) := dk_180 0 44 (dk_at dksX6_toMove_2 15 rfl rfl)
theorem dX6_toMove_63 : decode cX6_toMove 63 = .ok (.aload_n 0, 1) := dk_42 (dk_at dksX6_toMove_2 18 rfl rfl)
theorem dX6_toMove_64 : decode cX6_toMove 64 = .ok (.getfield 32, 3) := dk_180 0 32 (dk_at dksX6_toMove_2 19 rfl rfl)
theorem dX6_toMove_67 : decode cX6_toMove 67 = .ok (.iload_n 1, 1) := dk_27 (dk_at dksX6_toMove_2 22 rfl rfl)
theorem dX6_toMove_68 : decode cX6_toMove 68 = .ok (.iaload, 1) := dk_46 (dk_at dksX6_toMove_2 23 rfl rfl)
theorem dX6_toMove_69 : decode cX6_toMove 69 = .ok (.iaload, 1) := dk_46 (dk_at dksX6_toMove_3 0 rfl rfl)
theorem dX6_toMove_70 : decode cX6_toMove 70 = .ok (.if_icmp .ge 5, 3) := dk_162 0 5 (dk_at dksX6_toMove_3 1 rfl rfl)
theorem dX6_toMove_73 : decode cX6_toMove 73 = .ok (.iload_n 2, 1) := dk_28 (dk_at dksX6_toMove_3 4 rfl rfl)
theorem dX6_toMove_74 : decode cX6_toMove 74 = .ok (.istore_n 1, 1) := dk_60 (dk_at dksX6_toMove_3 5 rfl rfl)
theorem dX6_toMove_75 : decode cX6_toMove 75 = .ok (.iinc 2 1, 3) := dk_132 2 1 (dk_at dksX6_toMove_3 6 rfl rfl)
theorem dX6_toMove_78 : decode cX6_toMove 78 = .ok (.goto (-74), 3) := dk_167 255 182 (dk_at dksX6_toMove_3 9 rfl rfl)
theorem dX6_toMove_81 : decode cX6_toMove 81 = .ok (.aload_n 0, 1) := dk_42 (dk_at dksX6_toMove_3 12 rfl rfl)
theorem dX6_toMove_82 : decode cX6_toMove 82 = .ok (.iconst 1, 1) := dk_4 (dk_at dksX6_toMove_3 13 rfl rfl)
theorem dX6_toMove_83 : decode cX6_toMove 83 = .ok (.invokevirtual 133, 3) := dk_182 0 133 (dk_at dksX6_toMove_3 14 rfl rfl)
theorem dX6_toMove_86 : decode cX6_toMove 86 = .ok (.istore_n 2, 1) := dk_61 (dk_at dksX6_toMove_3 17 rfl rfl)
theorem dX6_toMove_87 : decode cX6_toMove 87 = .ok (.iload_n 1, 1) := dk_27 (dk_at dksX6_toMove_3 18 rfl rfl)
theorem dX6_toMove_88 : decode cX6_toMove 88 = .ok (.iconst (-1), 1) := dk_2 (dk_at dksX6_toMove_3 19 rfl rfl)
theorem dX6_toMove_89 : decode cX6_toMove 89 = .ok (.if_icmp .eq 34, 3) := dk_159 0 34 (dk_at dksX6_toMove_3 20 rfl rfl)
theorem dX6_toMove_92 : decode cX6_toMove 92 = .ok (.iload_n 2, 1) := dk_28 (dk_at dksX6_toMove_3 23 rfl rfl)
theorem dX6_toMove_93 : decode cX6_toMove 93 = .ok (.iconst (-1), 1) := dk_2 (dk_at dksX6_toMove_4 0 rfl rfl)
theorem dX6_toMove_94 : decode cX6_toMove 94 = .ok (.if_icmp .eq 29, 3) := dk_159 0 29 (dk_at dksX6_toMove_4 1 rfl rfl)
theorem dX6_toMove_97 : decode cX6_toMove 97 = .ok (.aload_n 0, 1) := dk_42 (dk_at dksX6_toMove_4 4 rfl rfl)
theorem dX6_toMove_98 : decode cX6_toMove 98 = .ok (.getfield 44, 3) := dk_180 0 44 (dk_at dksX6_toMove_4 5 rfl rfl)
theorem dX6_toMove_101 : decode cX6_toMove 101 = .ok (.iload_n 2, 1) := dk_28 (dk_at dksX6_toMove_4 8 rfl rfl)
theorem dX6_toMove_102 : decode cX6_toMove 102 = .ok (.iaload, 1) := dk_46 (dk_at dksX6_toMove_4 9 rfl rfl)
theorem dX6_toMove_103 : decode cX6_toMove 103 = .ok (.aload_n 0, 1) := dk_42 (dk_at dksX6_toMove_4 10 rfl rfl)
theorem dX6_toMove_104 : decode cX6_toMove 104 = .ok (.getfield 44, 3) := dk_180 0 44 (dk_at dksX6_toMove_4 11 rfl rfl)
theorem dX6_toMove_107 : decode cX6_toMove 107 = .ok (.aload_n 0, 1) := dk_42 (dk_at dksX6_toMove_4 14 rfl rfl)
theorem dX6_toMove_108 : decode cX6_toMove 108 = .ok (.getfield 32, 3) := dk_180 0 32 (dk_at dksX6_toMove_4 15 rfl rfl)
theorem dX6_toMove_111 : decode cX6_toMove 111 = .ok (.iload_n 1, 1) := dk_27 (dk_at dksX6_toMove_4 18 rfl rfl)
theorem dX6_toMove_112 : decode cX6_toMove 112 = .ok (.iaload, 1) := dk_46 (dk_at dksX6_toMove_4 19 rfl rfl)
theorem dX6_toMove_113 : decode cX6_toMove 113 = .ok (.iaload, 1) := dk_46 (dk_at dksX6_toMove_4 20 rfl rfl)
theorem dX6_toMove_114 : decode cX6_toMove 114 = .ok (.isub, 1) := dk_100 (dk_at dksX6_toMove_4 21 rfl rfl)
theorem dX6_toMove_115 : decode cX6_toMove 115 = .ok (.iconst 4, 1) := dk_7 (dk_at dksX6_toMove_4 22 rfl rfl)
theorem dX6_toMove_116 : decode cX6_toMove 116 = .ok (.if_icmp .lt 7, 3) := dk_161 0 7 (dk_at dksX6_toMove_5 0 rfl rfl)
theorem dX6_toMove_119 : decode cX6_toMove 119 = .ok (.iload_n 1, 1) := dk_27 (dk_at dksX6_toMove_5 3 rfl rfl)
theorem dX6_toMove_120 : decode cX6_toMove 120 = .ok (.goto 4, 3) := dk_167 0 4 (dk_at dksX6_toMove_5 4 rfl rfl)
theorem dX6_toMove_123 : decode cX6_toMove 123 = .ok (.iconst (-1), 1) := dk_2 (dk_at dksX6_toMove_5 7 rfl rfl)
theorem dX6_toMove_124 : decode cX6_toMove 124 = .ok (.ireturn, 1) := dk_172 (dk_at dksX6_toMove_5 8 rfl rfl)
abbrev cX6_failMove : ByteArray := prog_2_method_28_code
def yX6_failMove : MethodName := ⟨RX6, "failMove", "()V"⟩
def dkwX6_failMove_0 : List UInt8 := [42, 42, 180, 0, 193, 182, 0, 130, 42, 2, 181, 0, 21, 177]
abbrev dktX6_failMove_0 : List UInt8 := dkwX6_failMove_0 ++ []
theorem dksX6_failMove_0 : cX6_failMove.data.toList.drop 0 = dktX6_failMove_0 := by decide +kernel
theorem dX6_failMove_0 : decode cX6_failMove 0 = .ok (.aload_n 0, 1) := dk_42 (dk_at dksX6_failMove_0 0 rfl rfl)
theorem dX6_failMove_1 : decode cX6_failMove 1 = .ok (.aload_n 0, 1) := dk_42 (dk_at dksX6_failMove_0 1 rfl rfl)
theorem dX6_failMove_2 : decode cX6_failMove 2 = .ok (.getfield 193, 3) := dk_180 0 193 (dk_at dksX6_failMove_0 2 rfl rfl)
theorem dX6_failMove_5 : decode cX6_failMove 5 = .ok (.invokevirtual 130, 3) := dk_182 0 130 (dk_at dksX6_failMove_0 5 rfl rfl)
theorem dX6_failMove_8 : decode cX6_failMove 8 = .ok (.aload_n 0, 1) := dk_42 (dk_at dksX6_failMove_0 8 rfl rfl)
theorem dX6_failMove_9 : decode cX6_failMove 9 = .ok (.iconst (-1), 1) := dk_2 (dk_at dksX6_failMove_0 9 rfl rfl)
theorem dX6_failMove_10 : decode cX6_failMove 10 = .ok (.putfield 21, 3) := dk_181 0 21 (dk_at dksX6_failMove_0 10 rfl rfl)
theorem dX6_failMove_13 : decode cX6_failMove 13 = .ok (.return_, 1) := dk_177 (dk_at dksX6_failMove_0 13 rfl rfl)
abbrev cX6_isSound : ByteArray := prog_2_method_32_code
def yX6_isSound : MethodName := ⟨RX6, "isSound", "()Z"⟩
def dkwX6_isSound_9 : List UInt8 := [46, 28, 160, 0, 7, 4, 167, 0, 4, 3, 126, 60, 132, 2, 1, 167, 255, 212, 27, 172]
abbrev dktX6_isSound_9 : List UInt8 := dkwX6_isSound_9 ++ []
def dkwX6_isSound_8 : List UInt8 := [162, 0, 42, 27, 42, 180, 0, 32, 28, 46, 2, 159, 0, 18, 42, 180, 0, 41, 42, 180, 0, 32, 28, 46]
abbrev dktX6_isSound_8 : List UInt8 := dkwX6_isSound_8 ++ dktX6_isSound_9
def dkwX6_isSound_7 : List UInt8 := [153, 0, 7, 4, 167, 0, 4, 3, 126, 60, 132, 2, 1, 167, 255, 85, 3, 61, 28, 42, 180, 0, 29]
abbrev dktX6_isSound_7 : List UInt8 := dkwX6_isSound_7 ++ dktX6_isSound_8
def dkwX6_isSound_6 : List UInt8 := [167, 0, 33, 29, 16, 253, 160, 0, 27, 27, 21, 4, 154, 0, 14, 42, 180, 0, 25, 28, 182, 0, 213]
abbrev dktX6_isSound_6 : List UInt8 := dkwX6_isSound_6 ++ dktX6_isSound_7
def dkwX6_isSound_5 : List UInt8 := [160, 0, 21, 42, 28, 182, 0, 216, 42, 180, 0, 44, 28, 46, 160, 0, 7, 4, 167, 0, 4, 3, 126, 60]
abbrev dktX6_isSound_5 : List UInt8 := dkwX6_isSound_5 ++ dktX6_isSound_6
def dkwX6_isSound_4 : List UInt8 := [167, 0, 4, 3, 126, 60, 167, 0, 75, 29, 2, 160, 0, 40, 27, 42, 180, 0, 25, 28, 182, 0, 78, 4]
abbrev dktX6_isSound_4 : List UInt8 := dkwX6_isSound_4 ++ dktX6_isSound_5
def dkwX6_isSound_3 : List UInt8 := [180, 0, 90, 29, 160, 0, 21, 42, 28, 182, 0, 216, 42, 180, 0, 44, 28, 46, 160, 0, 7, 4]
abbrev dktX6_isSound_3 : List UInt8 := dkwX6_isSound_3 ++ dktX6_isSound_4
def dkwX6_isSound_2 : List UInt8 := [155, 0, 54, 27, 42, 180, 0, 32, 29, 46, 28, 160, 0, 37, 42, 28, 182, 0, 219, 153, 0, 29, 42]
abbrev dktX6_isSound_2 : List UInt8 := dkwX6_isSound_2 ++ dktX6_isSound_3
def dkwX6_isSound_1 : List UInt8 := [180, 0, 21, 2, 159, 0, 15, 28, 42, 180, 0, 193, 160, 0, 7, 4, 167, 0, 4, 3, 54, 4, 29]
abbrev dktX6_isSound_1 : List UInt8 := dkwX6_isSound_1 ++ dktX6_isSound_2
def dkwX6_isSound_0 : List UInt8 := [4, 60, 3, 61, 28, 42, 180, 0, 25, 180, 0, 36, 162, 0, 166, 42, 180, 0, 41, 28, 46, 62, 42]
abbrev dktX6_isSound_0 : List UInt8 := dkwX6_isSound_0 ++ dktX6_isSound_1
theorem dksX6_isSound_0 : cX6_isSound.data.toList.drop 0 = dktX6_isSound_0 := by decide +kernel
theorem dksX6_isSound_1 : cX6_isSound.data.toList.drop 23 = dktX6_isSound_1 := dk_seg dksX6_isSound_0 23 rfl rfl
theorem dksX6_isSound_2 : cX6_isSound.data.toList.drop 46 = dktX6_isSound_2 := dk_seg dksX6_isSound_1 23 rfl rfl
theorem dksX6_isSound_3 : cX6_isSound.data.toList.drop 69 = dktX6_isSound_3 := dk_seg dksX6_isSound_2 23 rfl rfl
theorem dksX6_isSound_4 : cX6_isSound.data.toList.drop 91 = dktX6_isSound_4 := dk_seg dksX6_isSound_3 22 rfl rfl
theorem dksX6_isSound_5 : cX6_isSound.data.toList.drop 115 = dktX6_isSound_5 := dk_seg dksX6_isSound_4 24 rfl rfl
theorem dksX6_isSound_6 : cX6_isSound.data.toList.drop 139 = dktX6_isSound_6 := dk_seg dksX6_isSound_5 24 rfl rfl
theorem dksX6_isSound_7 : cX6_isSound.data.toList.drop 162 = dktX6_isSound_7 := dk_seg dksX6_isSound_6 23 rfl rfl
theorem dksX6_isSound_8 : cX6_isSound.data.toList.drop 185 = dktX6_isSound_8 := dk_seg dksX6_isSound_7 23 rfl rfl
theorem dksX6_isSound_9 : cX6_isSound.data.toList.drop 209 = dktX6_isSound_9 := dk_seg dksX6_isSound_8 24 rfl rfl
theorem dX6_isSound_0 : decode cX6_isSound 0 = .ok (.iconst 1, 1) := dk_4 (dk_at dksX6_isSound_0 0 rfl rfl)
theorem dX6_isSound_1 : decode cX6_isSound 1 = .ok (.istore_n 1, 1) := dk_60 (dk_at dksX6_isSound_0 1 rfl rfl)
theorem dX6_isSound_2 : decode cX6_isSound 2 = .ok (.iconst 0, 1) := dk_3 (dk_at dksX6_isSound_0 2 rfl rfl)
theorem dX6_isSound_3 : decode cX6_isSound 3 = .ok (.istore_n 2, 1) := dk_61 (dk_at dksX6_isSound_0 3 rfl rfl)
theorem dX6_isSound_4 : decode cX6_isSound 4 = .ok (.iload_n 2, 1) := dk_28 (dk_at dksX6_isSound_0 4 rfl rfl)
theorem dX6_isSound_5 : decode cX6_isSound 5 = .ok (.aload_n 0, 1) := dk_42 (dk_at dksX6_isSound_0 5 rfl rfl)
theorem dX6_isSound_6 : decode cX6_isSound 6 = .ok (.getfield 25, 3) := dk_180 0 25 (dk_at dksX6_isSound_0 6 rfl rfl)
theorem dX6_isSound_9 : decode cX6_isSound 9 = .ok (.getfield 36, 3) := dk_180 0 36 (dk_at dksX6_isSound_0 9 rfl rfl)
theorem dX6_isSound_12 : decode cX6_isSound 12 = .ok (.if_icmp .ge 166, 3) := dk_162 0 166 (dk_at dksX6_isSound_0 12 rfl rfl)
theorem dX6_isSound_15 : decode cX6_isSound 15 = .ok (.aload_n 0, 1) := dk_42 (dk_at dksX6_isSound_0 15 rfl rfl)
theorem dX6_isSound_16 : decode cX6_isSound 16 = .ok (.getfield 41, 3) := dk_180 0 41 (dk_at dksX6_isSound_0 16 rfl rfl)
theorem dX6_isSound_19 : decode cX6_isSound 19 = .ok (.iload_n 2, 1) := dk_28 (dk_at dksX6_isSound_0 19 rfl rfl)
theorem dX6_isSound_20 : decode cX6_isSound 20 = .ok (.iaload, 1) := dk_46 (dk_at dksX6_isSound_0 20 rfl rfl)
theorem dX6_isSound_21 : decode cX6_isSound 21 = .ok (.istore_n 3, 1) := dk_62 (dk_at dksX6_isSound_0 21 rfl rfl)
theorem dX6_isSound_22 : decode cX6_isSound 22 = .ok (.aload_n 0, 1) := dk_42 (dk_at dksX6_isSound_0 22 rfl rfl)
theorem dX6_isSound_23 : decode cX6_isSound 23 = .ok (.getfield 21, 3) := dk_180 0 21 (dk_at dksX6_isSound_1 0 rfl rfl)
theorem dX6_isSound_26 : decode cX6_isSound 26 = .ok (.iconst (-1), 1) := dk_2 (dk_at dksX6_isSound_1 3 rfl rfl)
theorem dX6_isSound_27 : decode cX6_isSound 27 = .ok (.if_icmp .eq 15, 3) := dk_159 0 15 (dk_at dksX6_isSound_1 4 rfl rfl)
theorem dX6_isSound_30 : decode cX6_isSound 30 = .ok (.iload_n 2, 1) := dk_28 (dk_at dksX6_isSound_1 7 rfl rfl)
theorem dX6_isSound_31 : decode cX6_isSound 31 = .ok (.aload_n 0, 1) := dk_42 (dk_at dksX6_isSound_1 8 rfl rfl)
theorem dX6_isSound_32 : decode cX6_isSound 32 = .ok (.getfield 193, 3) := dk_180 0 193 (dk_at dksX6_isSound_1 9 rfl rfl)
theorem dX6_isSound_35 : decode cX6_isSound 35 = .ok (.if_icmp .ne 7, 3) := dk_160 0 7 (dk_at dksX6_isSound_1 12 rfl rfl)
theorem dX6_isSound_38 : decode cX6_isSound 38 = .ok (.iconst 1, 1) := dk_4 (dk_at dksX6_isSound_1 15 rfl rfl)
theorem dX6_isSound_39 : decode cX6_isSound 39 = .ok (.goto 4, 3) := dk_167 0 4 (dk_at dksX6_isSound_1 16 rfl rfl)
theorem dX6_isSound_42 : decode cX6_isSound 42 = .ok (.iconst 0, 1) := dk_3 (dk_at dksX6_isSound_1 19 rfl rfl)
theorem dX6_isSound_43 : decode cX6_isSound 43 = .ok (.istore 4, 2) := dk_54 4 (dk_at dksX6_isSound_1 20 rfl rfl)
theorem dX6_isSound_45 : decode cX6_isSound 45 = .ok (.iload_n 3, 1) := dk_29 (dk_at dksX6_isSound_1 22 rfl rfl)
theorem dX6_isSound_46 : decode cX6_isSound 46 = .ok (.ifCond .lt 54, 3) := dk_155 0 54 (dk_at dksX6_isSound_2 0 rfl rfl)
theorem dX6_isSound_49 : decode cX6_isSound 49 = .ok (.iload_n 1, 1) := dk_27 (dk_at dksX6_isSound_2 3 rfl rfl)
theorem dX6_isSound_50 : decode cX6_isSound 50 = .ok (.aload_n 0, 1) := dk_42 (dk_at dksX6_isSound_2 4 rfl rfl)
theorem dX6_isSound_51 : decode cX6_isSound 51 = .ok (.getfield 32, 3) := dk_180 0 32 (dk_at dksX6_isSound_2 5 rfl rfl)
theorem dX6_isSound_54 : decode cX6_isSound 54 = .ok (.iload_n 3, 1) := dk_29 (dk_at dksX6_isSound_2 8 rfl rfl)
theorem dX6_isSound_55 : decode cX6_isSound 55 = .ok (.iaload, 1) := dk_46 (dk_at dksX6_isSound_2 9 rfl rfl)
theorem dX6_isSound_56 : decode cX6_isSound 56 = .ok (.iload_n 2, 1) := dk_28 (dk_at dksX6_isSound_2 10 rfl rfl)
theorem dX6_isSound_57 : decode cX6_isSound 57 = .ok (.if_icmp .ne 37, 3) := dk_160 0 37 (dk_at dksX6_isSound_2 11 rfl rfl)
theorem dX6_isSound_60 : decode cX6_isSound 60 = .ok (.aload_n 0, 1) := dk_42 (dk_at dksX6_isSound_2 14 rfl rfl)
theorem dX6_isSound_61 : decode cX6_isSound 61 = .ok (.iload_n 2, 1) := dk_28 (dk_at dksX6_isSound_2 15 rfl rfl)
theorem dX6_isSound_62 : decode cX6_isSound 62 = .ok (.invokevirtual 219, 3) := dk_182 0 219 (dk_at dksX6_isSound_2 16 rfl rfl)
theorem dX6_isSound_65 : decode cX6_isSound 65 = .ok (.ifCond .eq 29, 3) := dk_153 0 29 (dk_at dksX6_isSound_2 19 rfl rfl)
theorem dX6_isSound_68 : decode cX6_isSound 68 = .ok (.aload_n 0, 1) := dk_42 (dk_at dksX6_isSound_2 22 rfl rfl)
theorem dX6_isSound_69 : decode cX6_isSound 69 = .ok (.getfield 90, 3) := dk_180 0 90 (dk_at dksX6_isSound_3 0 rfl rfl)
theorem dX6_isSound_72 : decode cX6_isSound 72 = .ok (.iload_n 3, 1) := dk_29 (dk_at dksX6_isSound_3 3 rfl rfl)
theorem dX6_isSound_73 : decode cX6_isSound 73 = .ok (.if_icmp .ne 21, 3) := dk_160 0 21 (dk_at dksX6_isSound_3 4 rfl rfl)
theorem dX6_isSound_76 : decode cX6_isSound 76 = .ok (.aload_n 0, 1) := dk_42 (dk_at dksX6_isSound_3 7 rfl rfl)
theorem dX6_isSound_77 : decode cX6_isSound 77 = .ok (.iload_n 2, 1) := dk_28 (dk_at dksX6_isSound_3 8 rfl rfl)
theorem dX6_isSound_78 : decode cX6_isSound 78 = .ok (.invokevirtual 216, 3) := dk_182 0 216 (dk_at dksX6_isSound_3 9 rfl rfl)
theorem dX6_isSound_81 : decode cX6_isSound 81 = .ok (.aload_n 0, 1) := dk_42 (dk_at dksX6_isSound_3 12 rfl rfl)
theorem dX6_isSound_82 : decode cX6_isSound 82 = .ok (.getfield 44, 3) := dk_180 0 44 (dk_at dksX6_isSound_3 13 rfl rfl)
theorem dX6_isSound_85 : decode cX6_isSound 85 = .ok (.iload_n 2, 1) := dk_28 (dk_at dksX6_isSound_3 16 rfl rfl)
theorem dX6_isSound_86 : decode cX6_isSound 86 = .ok (.iaload, 1) := dk_46 (dk_at dksX6_isSound_3 17 rfl rfl)
theorem dX6_isSound_87 : decode cX6_isSound 87 = .ok (.if_icmp .ne 7, 3) := dk_160 0 7 (dk_at dksX6_isSound_3 18 rfl rfl)
theorem dX6_isSound_90 : decode cX6_isSound 90 = .ok (.iconst 1, 1) := dk_4 (dk_at dksX6_isSound_3 21 rfl rfl)
theorem dX6_isSound_91 : decode cX6_isSound 91 = .ok (.goto 4, 3) := dk_167 0 4 (dk_at dksX6_isSound_4 0 rfl rfl)
theorem dX6_isSound_94 : decode cX6_isSound 94 = .ok (.iconst 0, 1) := dk_3 (dk_at dksX6_isSound_4 3 rfl rfl)
theorem dX6_isSound_95 : decode cX6_isSound 95 = .ok (.iand, 1) := dk_126 (dk_at dksX6_isSound_4 4 rfl rfl)
theorem dX6_isSound_96 : decode cX6_isSound 96 = .ok (.istore_n 1, 1) := dk_60 (dk_at dksX6_isSound_4 5 rfl rfl)
theorem dX6_isSound_97 : decode cX6_isSound 97 = .ok (.goto 75, 3) := dk_167 0 75 (dk_at dksX6_isSound_4 6 rfl rfl)
theorem dX6_isSound_100 : decode cX6_isSound 100 = .ok (.iload_n 3, 1) := dk_29 (dk_at dksX6_isSound_4 9 rfl rfl)
theorem dX6_isSound_101 : decode cX6_isSound 101 = .ok (.iconst (-1), 1) := dk_2 (dk_at dksX6_isSound_4 10 rfl rfl)
theorem dX6_isSound_102 : decode cX6_isSound 102 = .ok (.if_icmp .ne 40, 3) := dk_160 0 40 (dk_at dksX6_isSound_4 11 rfl rfl)
theorem dX6_isSound_105 : decode cX6_isSound 105 = .ok (.iload_n 1, 1) := dk_27 (dk_at dksX6_isSound_4 14 rfl rfl)
theorem dX6_isSound_106 : decode cX6_isSound 106 = .ok (.aload_n 0, 1) := dk_42 (dk_at dksX6_isSound_4 15 rfl rfl)
theorem dX6_isSound_107 : decode cX6_isSound 107 = .ok (.getfield 25, 3) := dk_180 0 25 (dk_at dksX6_isSound_4 16 rfl rfl)
theorem dX6_isSound_110 : decode cX6_isSound 110 = .ok (.iload_n 2, 1) := dk_28 (dk_at dksX6_isSound_4 19 rfl rfl)
theorem dX6_isSound_111 : decode cX6_isSound 111 = .ok (.invokevirtual 78, 3) := dk_182 0 78 (dk_at dksX6_isSound_4 20 rfl rfl)
theorem dX6_isSound_114 : decode cX6_isSound 114 = .ok (.iconst 1, 1) := dk_4 (dk_at dksX6_isSound_4 23 rfl rfl)
theorem dX6_isSound_115 : decode cX6_isSound 115 = .ok (.if_icmp .ne 21, 3) := dk_160 0 21 (dk_at dksX6_isSound_5 0 rfl rfl)
theorem dX6_isSound_118 : decode cX6_isSound 118 = .ok (.aload_n 0, 1) := dk_42 (dk_at dksX6_isSound_5 3 rfl rfl)
theorem dX6_isSound_119 : decode cX6_isSound 119 = .ok (.iload_n 2, 1) := dk_28 (dk_at dksX6_isSound_5 4 rfl rfl)
theorem dX6_isSound_120 : decode cX6_isSound 120 = .ok (.invokevirtual 216, 3) := dk_182 0 216 (dk_at dksX6_isSound_5 5 rfl rfl)
theorem dX6_isSound_123 : decode cX6_isSound 123 = .ok (.aload_n 0, 1) := dk_42 (dk_at dksX6_isSound_5 8 rfl rfl)
theorem dX6_isSound_124 : decode cX6_isSound 124 = .ok (.getfield 44, 3) := dk_180 0 44 (dk_at dksX6_isSound_5 9 rfl rfl)
theorem dX6_isSound_127 : decode cX6_isSound 127 = .ok (.iload_n 2, 1) := dk_28 (dk_at dksX6_isSound_5 12 rfl rfl)
theorem dX6_isSound_128 : decode cX6_isSound 128 = .ok (.iaload, 1) := dk_46 (dk_at dksX6_isSound_5 13 rfl rfl)
theorem dX6_isSound_129 : decode cX6_isSound 129 = .ok (.if_icmp .ne 7, 3) := dk_160 0 7 (dk_at dksX6_isSound_5 14 rfl rfl)
theorem dX6_isSound_132 : decode cX6_isSound 132 = .ok (.iconst 1, 1) := dk_4 (dk_at dksX6_isSound_5 17 rfl rfl)
theorem dX6_isSound_133 : decode cX6_isSound 133 = .ok (.goto 4, 3) := dk_167 0 4 (dk_at dksX6_isSound_5 18 rfl rfl)
theorem dX6_isSound_136 : decode cX6_isSound 136 = .ok (.iconst 0, 1) := dk_3 (dk_at dksX6_isSound_5 21 rfl rfl)
theorem dX6_isSound_137 : decode cX6_isSound 137 = .ok (.iand, 1) := dk_126 (dk_at dksX6_isSound_5 22 rfl rfl)
theorem dX6_isSound_138 : decode cX6_isSound 138 = .ok (.istore_n 1, 1) := dk_60 (dk_at dksX6_isSound_5 23 rfl rfl)
theorem dX6_isSound_139 : decode cX6_isSound 139 = .ok (.goto 33, 3) := dk_167 0 33 (dk_at dksX6_isSound_6 0 rfl rfl)
theorem dX6_isSound_142 : decode cX6_isSound 142 = .ok (.iload_n 3, 1) := dk_29 (dk_at dksX6_isSound_6 3 rfl rfl)
theorem dX6_isSound_143 : decode cX6_isSound 143 = .ok (.bipush (-3), 2) := dk_16 253 (dk_at dksX6_isSound_6 4 rfl rfl)
theorem dX6_isSound_145 : decode cX6_isSound 145 = .ok (.if_icmp .ne 27, 3) := dk_160 0 27 (dk_at dksX6_isSound_6 6 rfl rfl)
theorem dX6_isSound_148 : decode cX6_isSound 148 = .ok (.iload_n 1, 1) := dk_27 (dk_at dksX6_isSound_6 9 rfl rfl)
theorem dX6_isSound_149 : decode cX6_isSound 149 = .ok (.iload 4, 2) := dk_21 4 (dk_at dksX6_isSound_6 10 rfl rfl)
theorem dX6_isSound_151 : decode cX6_isSound 151 = .ok (.ifCond .ne 14, 3) := dk_154 0 14 (dk_at dksX6_isSound_6 12 rfl rfl)
theorem dX6_isSound_154 : decode cX6_isSound 154 = .ok (.aload_n 0, 1) := dk_42 (dk_at dksX6_isSound_6 15 rfl rfl)
theorem dX6_isSound_155 : decode cX6_isSound 155 = .ok (.getfield 25, 3) := dk_180 0 25 (dk_at dksX6_isSound_6 16 rfl rfl)
theorem dX6_isSound_158 : decode cX6_isSound 158 = .ok (.iload_n 2, 1) := dk_28 (dk_at dksX6_isSound_6 19 rfl rfl)
theorem dX6_isSound_159 : decode cX6_isSound 159 = .ok (.invokevirtual 213, 3) := dk_182 0 213 (dk_at dksX6_isSound_6 20 rfl rfl)
theorem dX6_isSound_162 : decode cX6_isSound 162 = .ok (.ifCond .eq 7, 3) := dk_153 0 7 (dk_at dksX6_isSound_7 0 rfl rfl)
theorem dX6_isSound_165 : decode cX6_isSound 165 = .ok (.iconst 1, 1) := dk_4 (dk_at dksX6_isSound_7 3 rfl rfl)
theorem dX6_isSound_166 : decode cX6_isSound 166 = .ok (.goto 4, 3) := dk_167 0 4 (dk_at dksX6_isSound_7 4 rfl rfl)
theorem dX6_isSound_169 : decode cX6_isSound 169 = .ok (.iconst 0, 1) := dk_3 (dk_at dksX6_isSound_7 7 rfl rfl)
theorem dX6_isSound_170 : decode cX6_isSound 170 = .ok (.iand, 1) := dk_126 (dk_at dksX6_isSound_7 8 rfl rfl)
theorem dX6_isSound_171 : decode cX6_isSound 171 = .ok (.istore_n 1, 1) := dk_60 (dk_at dksX6_isSound_7 9 rfl rfl)
theorem dX6_isSound_172 : decode cX6_isSound 172 = .ok (.iinc 2 1, 3) := dk_132 2 1 (dk_at dksX6_isSound_7 10 rfl rfl)
theorem dX6_isSound_175 : decode cX6_isSound 175 = .ok (.goto (-171), 3) := dk_167 255 85 (dk_at dksX6_isSound_7 13 rfl rfl)
theorem dX6_isSound_178 : decode cX6_isSound 178 = .ok (.iconst 0, 1) := dk_3 (dk_at dksX6_isSound_7 16 rfl rfl)
theorem dX6_isSound_179 : decode cX6_isSound 179 = .ok (.istore_n 2, 1) := dk_61 (dk_at dksX6_isSound_7 17 rfl rfl)
theorem dX6_isSound_180 : decode cX6_isSound 180 = .ok (.iload_n 2, 1) := dk_28 (dk_at dksX6_isSound_7 18 rfl rfl)
theorem dX6_isSound_181 : decode cX6_isSound 181 = .ok (.aload_n 0, 1) := dk_42 (dk_at dksX6_isSound_7 19 rfl rfl)
theorem dX6_isSound_182 : decode cX6_isSound 182 = .ok (.getfield 29, 3) := dk_180 0 29 (dk_at dksX6_isSound_7 20 rfl rfl)
theorem dX6_isSound_185 : decode cX6_isSound 185 = .ok (.if_icmp .ge 42, 3) := dk_162 0 42 (dk_at dksX6_isSound_8 0 rfl rfl)
theorem dX6_isSound_188 : decode cX6_isSound 188 = .ok (.iload_n 1, 1) := dk_27 (dk_at dksX6_isSound_8 3 rfl rfl)
theorem dX6_isSound_189 : decode cX6_isSound 189 = .ok (.aload_n 0, 1) := dk_42 (dk_at dksX6_isSound_8 4 rfl rfl)
theorem dX6_isSound_190 : decode cX6_isSound 190 = .ok (.getfield 32, 3) := dk_180 0 32 (dk_at dksX6_isSound_8 5 rfl rfl)
theorem dX6_isSound_193 : decode cX6_isSound 193 = .ok (.iload_n 2, 1) := dk_28 (dk_at dksX6_isSound_8 8 rfl rfl)
theorem dX6_isSound_194 : decode cX6_isSound 194 = .ok (.iaload, 1) := dk_46 (dk_at dksX6_isSound_8 9 rfl rfl)
theorem dX6_isSound_195 : decode cX6_isSound 195 = .ok (.iconst (-1), 1) := dk_2 (dk_at dksX6_isSound_8 10 rfl rfl)
theorem dX6_isSound_196 : decode cX6_isSound 196 = .ok (.if_icmp .eq 18, 3) := dk_159 0 18 (dk_at dksX6_isSound_8 11 rfl rfl)
theorem dX6_isSound_199 : decode cX6_isSound 199 = .ok (.aload_n 0, 1) := dk_42 (dk_at dksX6_isSound_8 14 rfl rfl)
theorem dX6_isSound_200 : decode cX6_isSound 200 = .ok (.getfield 41, 3) := dk_180 0 41 (dk_at dksX6_isSound_8 15 rfl rfl)
theorem dX6_isSound_203 : decode cX6_isSound 203 = .ok (.aload_n 0, 1) := dk_42 (dk_at dksX6_isSound_8 18 rfl rfl)
theorem dX6_isSound_204 : decode cX6_isSound 204 = .ok (.getfield 32, 3) := dk_180 0 32 (dk_at dksX6_isSound_8 19 rfl rfl)
theorem dX6_isSound_207 : decode cX6_isSound 207 = .ok (.iload_n 2, 1) := dk_28 (dk_at dksX6_isSound_8 22 rfl rfl)
theorem dX6_isSound_208 : decode cX6_isSound 208 = .ok (.iaload, 1) := dk_46 (dk_at dksX6_isSound_8 23 rfl rfl)
theorem dX6_isSound_209 : decode cX6_isSound 209 = .ok (.iaload, 1) := dk_46 (dk_at dksX6_isSound_9 0 rfl rfl)
theorem dX6_isSound_210 : decode cX6_isSound 210 = .ok (.iload_n 2, 1) := dk_28 (dk_at dksX6_isSound_9 1 rfl rfl)
theorem dX6_isSound_211 : decode cX6_isSound 211 = .ok (.if_icmp .ne 7, 3) := dk_160 0 7 (dk_at dksX6_isSound_9 2 rfl rfl)
theorem dX6_isSound_214 : decode cX6_isSound 214 = .ok (.iconst 1, 1) := dk_4 (dk_at dksX6_isSound_9 5 rfl rfl)
theorem dX6_isSound_215 : decode cX6_isSound 215 = .ok (.goto 4, 3) := dk_167 0 4 (dk_at dksX6_isSound_9 6 rfl rfl)
theorem dX6_isSound_218 : decode cX6_isSound 218 = .ok (.iconst 0, 1) := dk_3 (dk_at dksX6_isSound_9 9 rfl rfl)
theorem dX6_isSound_219 : decode cX6_isSound 219 = .ok (.iand, 1) := dk_126 (dk_at dksX6_isSound_9 10 rfl rfl)
theorem dX6_isSound_220 : decode cX6_isSound 220 = .ok (.istore_n 1, 1) := dk_60 (dk_at dksX6_isSound_9 11 rfl rfl)
theorem dX6_isSound_221 : decode cX6_isSound 221 = .ok (.iinc 2 1, 3) := dk_132 2 1 (dk_at dksX6_isSound_9 12 rfl rfl)
theorem dX6_isSound_224 : decode cX6_isSound 224 = .ok (.goto (-44), 3) := dk_167 255 212 (dk_at dksX6_isSound_9 15 rfl rfl)
theorem dX6_isSound_227 : decode cX6_isSound 227 = .ok (.iload_n 1, 1) := dk_27 (dk_at dksX6_isSound_9 18 rfl rfl)
theorem dX6_isSound_228 : decode cX6_isSound 228 = .ok (.ireturn, 1) := dk_172 (dk_at dksX6_isSound_9 19 rfl rfl)
theorem q137 : (Jvm.Cond.initialized "NandHouse$Blocks") ∈ lw_all := lw_g (lw_at lw_m1 7 rfl) rfl
theorem q221 : (Jvm.Cond.fieldLink "NandHouse$Blocks" (36 : Nat) "NandHouse$Flash" "blocks" "I") ∈ lw_all := lw_g (lw_at lw_m1 91 rfl) rfl
theorem q224 : (Jvm.Cond.fieldLink "NandHouse$Blocks" (47 : Nat) "NandHouse$Flash" "pages" "I") ∈ lw_all := lw_g (lw_at lw_m1 94 rfl) rfl
theorem q264 : (Jvm.Cond.instantiable "NandHouse$Blocks" (18 : Nat)) ∈ lw_all := lw_g (lw_at lw_m1 134 rfl) rfl
theorem q266 : (Jvm.Cond.instanceMethod ({ cls := "NandHouse$Blocks", name := "<init>", desc := "(LNandHouse$Flash;I)V" } : Jvm.MethodName)) ∈ lw_all := lw_g (lw_at lw_m1 136 rfl) rfl
theorem q267 : (Jvm.Cond.code ({ cls := "NandHouse$Blocks", name := "<init>", desc := "(LNandHouse$Flash;I)V" } : Jvm.MethodName) prog_2_method_1_code (3 : Nat) (Option.none : Option Jvm.ClassFile.FieldType)) ∈ lw_all := lw_g (lw_at lw_m1 137 rfl) rfl
theorem q268 : (Jvm.Cond.methodLink "NandHouse$Blocks" (3 : Nat) ({ cls := "java/lang/Object", name := "<init>", desc := "()V" } : Jvm.MethodName)) ∈ lw_all := lw_g (lw_at lw_m1 138 rfl) rfl
theorem q269 : (Jvm.Cond.fieldLink "NandHouse$Blocks" (25 : Nat) "NandHouse$Blocks" "flash" "LNandHouse$Flash;") ∈ lw_all := lw_g (lw_at lw_m1 139 rfl) rfl
theorem q271 : (Jvm.Cond.fieldLink "NandHouse$Blocks" (29 : Nat) "NandHouse$Blocks" "numbers" "I") ∈ lw_all := lw_g (lw_at lw_m1 141 rfl) rfl
theorem q273 : (Jvm.Cond.fieldLink "NandHouse$Blocks" (32 : Nat) "NandHouse$Blocks" "blockOf" "[I") ∈ lw_all := lw_g (lw_at lw_m1 143 rfl) rfl
theorem q274 : (Jvm.Cond.fieldLink "NandHouse$Blocks" (41 : Nat) "NandHouse$Blocks" "carried" "[I") ∈ lw_all := lw_g (lw_at lw_m1 144 rfl) rfl
theorem q275 : (Jvm.Cond.fieldLink "NandHouse$Blocks" (44 : Nat) "NandHouse$Blocks" "erasures" "[I") ∈ lw_all := lw_g (lw_at lw_m1 145 rfl) rfl
theorem q276 : (Jvm.Cond.fieldLink "NandHouse$Blocks" (70 : Nat) "NandHouse$Blocks" "serial" "J") ∈ lw_all := lw_g (lw_at lw_m1 146 rfl) rfl
theorem q277 : (Jvm.Cond.fieldLink "NandHouse$Blocks" (9 : Nat) "NandHouse$Blocks" "page" "[B") ∈ lw_all := lw_g (lw_at lw_m1 147 rfl) rfl
theorem q278 : (Jvm.Cond.fieldLink "NandHouse$Blocks" (15 : Nat) "NandHouse$Blocks" "copy" "[B") ∈ lw_all := lw_g (lw_at lw_m1 148 rfl) rfl
theorem q279 : (Jvm.Cond.fieldLink "NandHouse$Blocks" (18 : Nat) "NandHouse$Blocks" "made" "[B") ∈ lw_all := lw_g (lw_at lw_m1 149 rfl) rfl
theorem q280 : (Jvm.Cond.fieldLink "NandHouse$Blocks" (21 : Nat) "NandHouse$Blocks" "moving" "I") ∈ lw_all := lw_g (lw_at lw_m1 150 rfl) rfl
theorem q281 : (Jvm.Cond.fieldLink "NandHouse$Blocks" (193 : Nat) "NandHouse$Blocks" "target" "I") ∈ lw_all := lw_g (lw_at lw_m1 151 rfl) rfl
theorem q282 : (Jvm.Cond.fieldLink "NandHouse$Blocks" (184 : Nat) "NandHouse$Blocks" "moved" "I") ∈ lw_all := lw_g (lw_at lw_m1 152 rfl) rfl
theorem q283 : (Jvm.Cond.fieldLink "NandHouse$Blocks" (187 : Nat) "NandHouse$Blocks" "toMove" "I") ∈ lw_all := lw_g (lw_at lw_m1 153 rfl) rfl
theorem q284 : (Jvm.Cond.fieldLink "NandHouse$Blocks" (90 : Nat) "NandHouse$Blocks" "headNumber" "I") ∈ lw_all := lw_g (lw_at lw_m1 154 rfl) rfl
theorem q285 : (Jvm.Cond.fieldLink "NandHouse$Blocks" (97 : Nat) "NandHouse$Blocks" "headSerial" "J") ∈ lw_all := lw_g (lw_at lw_m1 155 rfl) rfl
theorem q286 : (Jvm.Cond.fieldLink "NandHouse$Blocks" (100 : Nat) "NandHouse$Blocks" "headCopy" "Z") ∈ lw_all := lw_g (lw_at lw_m1 156 rfl) rfl
theorem q287 : (Jvm.Cond.fieldLink "NandHouse$Blocks" (104 : Nat) "NandHouse$Blocks" "headPages" "I") ∈ lw_all := lw_g (lw_at lw_m1 157 rfl) rfl
theorem q288 : (Jvm.Cond.fieldLink "NandHouse$Blocks" (107 : Nat) "NandHouse$Blocks" "headCheck" "I") ∈ lw_all := lw_g (lw_at lw_m1 158 rfl) rfl
theorem q289 : (Jvm.Cond.laysFinal "NandHouse$Blocks" "NandHouse$Blocks" "flash" "LNandHouse$Flash;") ∈ lw_all := lw_g (lw_at lw_m1 159 rfl) rfl
theorem q290 : (Jvm.Cond.soleField "NandHouse$Blocks" "flash") ∈ lw_all := lw_g (lw_at lw_m1 160 rfl) rfl
theorem q291 : (Jvm.Cond.laysFinal "NandHouse$Blocks" "NandHouse$Blocks" "numbers" "I") ∈ lw_all := lw_g (lw_at lw_m1 161 rfl) rfl
theorem q292 : (Jvm.Cond.soleField "NandHouse$Blocks" "numbers") ∈ lw_all := lw_g (lw_at lw_m1 162 rfl) rfl
theorem q293 : (Jvm.Cond.laysFinal "NandHouse$Blocks" "NandHouse$Blocks" "blockOf" "[I") ∈ lw_all := lw_g (lw_at lw_m1 163 rfl) rfl
theorem q294 : (Jvm.Cond.soleField "NandHouse$Blocks" "blockOf") ∈ lw_all := lw_g (lw_at lw_m1 164 rfl) rfl
theorem q295 : (Jvm.Cond.laysFinal "NandHouse$Blocks" "NandHouse$Blocks" "carried" "[I") ∈ lw_all := lw_g (lw_at lw_m1 165 rfl) rfl
theorem q296 : (Jvm.Cond.soleField "NandHouse$Blocks" "carried") ∈ lw_all := lw_g (lw_at lw_m1 166 rfl) rfl
theorem q297 : (Jvm.Cond.laysFinal "NandHouse$Blocks" "NandHouse$Blocks" "erasures" "[I") ∈ lw_all := lw_g (lw_at lw_m1 167 rfl) rfl
theorem q298 : (Jvm.Cond.soleField "NandHouse$Blocks" "erasures") ∈ lw_all := lw_g (lw_at lw_m1 168 rfl) rfl
theorem q299 : (Jvm.Cond.lays "NandHouse$Blocks" "NandHouse$Blocks" "serial" "J") ∈ lw_all := lw_g (lw_at lw_m1 169 rfl) rfl
theorem q300 : (Jvm.Cond.soleField "NandHouse$Blocks" "serial") ∈ lw_all := lw_g (lw_at lw_m1 170 rfl) rfl
theorem q301 : (Jvm.Cond.laysFinal "NandHouse$Blocks" "NandHouse$Blocks" "page" "[B") ∈ lw_all := lw_g (lw_at lw_m1 171 rfl) rfl
theorem q302 : (Jvm.Cond.soleField "NandHouse$Blocks" "page") ∈ lw_all := lw_g (lw_at lw_m1 172 rfl) rfl
theorem q303 : (Jvm.Cond.laysFinal "NandHouse$Blocks" "NandHouse$Blocks" "copy" "[B") ∈ lw_all := lw_g (lw_at lw_m1 173 rfl) rfl
theorem q304 : (Jvm.Cond.soleField "NandHouse$Blocks" "copy") ∈ lw_all := lw_g (lw_at lw_m1 174 rfl) rfl
theorem q305 : (Jvm.Cond.laysFinal "NandHouse$Blocks" "NandHouse$Blocks" "made" "[B") ∈ lw_all := lw_g (lw_at lw_m1 175 rfl) rfl
theorem q306 : (Jvm.Cond.soleField "NandHouse$Blocks" "made") ∈ lw_all := lw_g (lw_at lw_m1 176 rfl) rfl
theorem q307 : (Jvm.Cond.lays "NandHouse$Blocks" "NandHouse$Blocks" "moving" "I") ∈ lw_all := lw_g (lw_at lw_m1 177 rfl) rfl
theorem q308 : (Jvm.Cond.soleField "NandHouse$Blocks" "moving") ∈ lw_all := lw_g (lw_at lw_m1 178 rfl) rfl
theorem q309 : (Jvm.Cond.lays "NandHouse$Blocks" "NandHouse$Blocks" "target" "I") ∈ lw_all := lw_g (lw_at lw_m1 179 rfl) rfl
theorem q310 : (Jvm.Cond.soleField "NandHouse$Blocks" "target") ∈ lw_all := lw_g (lw_at lw_m1 180 rfl) rfl
theorem q311 : (Jvm.Cond.lays "NandHouse$Blocks" "NandHouse$Blocks" "moved" "I") ∈ lw_all := lw_g (lw_at lw_m1 181 rfl) rfl
theorem q312 : (Jvm.Cond.soleField "NandHouse$Blocks" "moved") ∈ lw_all := lw_g (lw_at lw_m1 182 rfl) rfl
theorem q313 : (Jvm.Cond.lays "NandHouse$Blocks" "NandHouse$Blocks" "toMove" "I") ∈ lw_all := lw_g (lw_at lw_m1 183 rfl) rfl
theorem q314 : (Jvm.Cond.soleField "NandHouse$Blocks" "toMove") ∈ lw_all := lw_g (lw_at lw_m1 184 rfl) rfl
theorem q315 : (Jvm.Cond.lays "NandHouse$Blocks" "NandHouse$Blocks" "headNumber" "I") ∈ lw_all := lw_g (lw_at lw_m1 185 rfl) rfl
theorem q316 : (Jvm.Cond.soleField "NandHouse$Blocks" "headNumber") ∈ lw_all := lw_g (lw_at lw_m1 186 rfl) rfl
theorem q317 : (Jvm.Cond.lays "NandHouse$Blocks" "NandHouse$Blocks" "headSerial" "J") ∈ lw_all := lw_g (lw_at lw_m1 187 rfl) rfl
theorem q318 : (Jvm.Cond.soleField "NandHouse$Blocks" "headSerial") ∈ lw_all := lw_g (lw_at lw_m1 188 rfl) rfl
theorem q319 : (Jvm.Cond.lays "NandHouse$Blocks" "NandHouse$Blocks" "headCopy" "Z") ∈ lw_all := lw_g (lw_at lw_m1 189 rfl) rfl
theorem q320 : (Jvm.Cond.soleField "NandHouse$Blocks" "headCopy") ∈ lw_all := lw_g (lw_at lw_m1 190 rfl) rfl
theorem q321 : (Jvm.Cond.lays "NandHouse$Blocks" "NandHouse$Blocks" "headPages" "I") ∈ lw_all := lw_g (lw_at lw_m1 191 rfl) rfl
theorem q322 : (Jvm.Cond.soleField "NandHouse$Blocks" "headPages") ∈ lw_all := lw_g (lw_at lw_m1 192 rfl) rfl
theorem q323 : (Jvm.Cond.lays "NandHouse$Blocks" "NandHouse$Blocks" "headCheck" "I") ∈ lw_all := lw_g (lw_at lw_m1 193 rfl) rfl
theorem q324 : (Jvm.Cond.soleField "NandHouse$Blocks" "headCheck") ∈ lw_all := lw_g (lw_at lw_m1 194 rfl) rfl
theorem q325 : (Jvm.Cond.superclass "NandHouse$Blocks" "java/lang/Object") ∈ lw_all := lw_g (lw_at lw_m1 195 rfl) rfl
theorem q333 : (Jvm.Cond.instanceMethod ({ cls := "NandHouse$Blocks", name := "pages", desc := "()I" } : Jvm.MethodName)) ∈ lw_all := lw_g (lw_at lw_m1 203 rfl) rfl
theorem q334 : (Jvm.Cond.selects "NandHouse$Blocks" ({ cls := "NandHouse$Blocks", name := "pages", desc := "()I" } : Jvm.MethodName) ({ cls := "NandHouse$Blocks", name := "pages", desc := "()I" } : Jvm.MethodName)) ∈ lw_all := lw_g (lw_at lw_m1 204 rfl) rfl
theorem q335 : (Jvm.Cond.code ({ cls := "NandHouse$Blocks", name := "pages", desc := "()I" } : Jvm.MethodName) prog_2_method_2_code (1 : Nat) (Option.some Jvm.ClassFile.FieldType.int)) ∈ lw_all := lw_g (lw_at lw_m1 205 rfl) rfl
theorem q649 : (Jvm.Cond.instanceMethod ({ cls := "NandHouse$Blocks", name := "format", desc := "()V" } : Jvm.MethodName)) ∈ lw_all := lw_g (lw_at lw_m3 39 rfl) rfl
theorem q650 : (Jvm.Cond.selects "NandHouse$Blocks" ({ cls := "NandHouse$Blocks", name := "format", desc := "()V" } : Jvm.MethodName) ({ cls := "NandHouse$Blocks", name := "format", desc := "()V" } : Jvm.MethodName)) ∈ lw_all := lw_g (lw_at lw_m3 40 rfl) rfl
theorem q651 : (Jvm.Cond.code ({ cls := "NandHouse$Blocks", name := "format", desc := "()V" } : Jvm.MethodName) prog_2_method_8_code (2 : Nat) (Option.none : Option Jvm.ClassFile.FieldType)) ∈ lw_all := lw_g (lw_at lw_m3 41 rfl) rfl
theorem q652 : (Jvm.Cond.methodLink "NandHouse$Blocks" (114 : Nat) ({ cls := "java/util/Arrays", name := "fill", desc := "([II)V" } : Jvm.MethodName)) ∈ lw_all := lw_g (lw_at lw_m3 42 rfl) rfl
theorem q655 : (Jvm.Cond.methodLink "NandHouse$Blocks" (117 : Nat) ({ cls := "NandHouse$Blocks", name := "erase", desc := "(I)V" } : Jvm.MethodName)) ∈ lw_all := lw_g (lw_at lw_m3 45 rfl) rfl
theorem q656 : (Jvm.Cond.privateMethod ({ cls := "NandHouse$Blocks", name := "erase", desc := "(I)V" } : Jvm.MethodName)) ∈ lw_tbl := lw_at lw_m3 46 rfl
theorem q657 : (Jvm.Cond.instanceMethod ({ cls := "NandHouse$Blocks", name := "erase", desc := "(I)V" } : Jvm.MethodName)) ∈ lw_all := lw_g (lw_at lw_m3 47 rfl) rfl
theorem q658 : (Jvm.Cond.code ({ cls := "NandHouse$Blocks", name := "erase", desc := "(I)V" } : Jvm.MethodName) prog_2_method_10_code (2 : Nat) (Option.none : Option Jvm.ClassFile.FieldType)) ∈ lw_all := lw_g (lw_at lw_m3 48 rfl) rfl
theorem q659 : (Jvm.Cond.methodLink "NandHouse$Blocks" (124 : Nat) ({ cls := "NandHouse$Flash", name := "erase", desc := "(I)Z" } : Jvm.MethodName)) ∈ lw_all := lw_g (lw_at lw_m3 49 rfl) rfl
theorem q679 : (Jvm.Cond.methodLink "NandHouse$Blocks" (127 : Nat) ({ cls := "NandHouse$Blocks", name := "writeErased", desc := "(I)Z" } : Jvm.MethodName)) ∈ lw_all := lw_g (lw_at lw_m3 69 rfl) rfl
theorem q680 : (Jvm.Cond.privateMethod ({ cls := "NandHouse$Blocks", name := "writeErased", desc := "(I)Z" } : Jvm.MethodName)) ∈ lw_tbl := lw_at lw_m3 70 rfl
theorem q681 : (Jvm.Cond.instanceMethod ({ cls := "NandHouse$Blocks", name := "writeErased", desc := "(I)Z" } : Jvm.MethodName)) ∈ lw_all := lw_g (lw_at lw_m3 71 rfl) rfl
theorem q682 : (Jvm.Cond.code ({ cls := "NandHouse$Blocks", name := "writeErased", desc := "(I)Z" } : Jvm.MethodName) prog_2_method_3_code (2 : Nat) (Option.some Jvm.ClassFile.FieldType.boolean)) ∈ lw_all := lw_g (lw_at lw_m3 72 rfl) rfl
theorem q683 : (Jvm.Cond.methodLink "NandHouse$Blocks" (50 : Nat) ({ cls := "java/util/Arrays", name := "fill", desc := "([BB)V" } : Jvm.MethodName)) ∈ lw_all := lw_g (lw_at lw_m3 73 rfl) rfl
theorem q684 : (Jvm.Cond.constant "NandHouse$Blocks" (56 : Nat) (1263288881 : Int32)) ∈ lw_all := lw_g (lw_at lw_m3 74 rfl) rfl
theorem q685 : (Jvm.Cond.methodLinkNest "NandHouse$Blocks" (57 : Nat) ({ cls := "NandHouse", name := "putInt", desc := "([BII)V" } : Jvm.MethodName) "NandHouse") ∈ lw_tbl := lw_at lw_m3 75 rfl
theorem q688 : (Jvm.Cond.methodLinkNest "NandHouse$Blocks" (61 : Nat) ({ cls := "NandHouse", name := "check", desc := "(I[BII)I" } : Jvm.MethodName) "NandHouse") ∈ lw_tbl := lw_at lw_m3 78 rfl
theorem q693 : (Jvm.Cond.methodLink "NandHouse$Blocks" (65 : Nat) ({ cls := "NandHouse$Flash", name := "write", desc := "(II[BI)Z" } : Jvm.MethodName)) ∈ lw_all := lw_g (lw_at lw_m3 83 rfl) rfl
theorem q704 : (Jvm.Cond.methodLink "NandHouse$Blocks" (130 : Nat) ({ cls := "NandHouse$Blocks", name := "lose", desc := "(I)V" } : Jvm.MethodName)) ∈ lw_all := lw_g (lw_at lw_m3 94 rfl) rfl
theorem q705 : (Jvm.Cond.privateMethod ({ cls := "NandHouse$Blocks", name := "lose", desc := "(I)V" } : Jvm.MethodName)) ∈ lw_tbl := lw_at lw_m3 95 rfl
theorem q706 : (Jvm.Cond.instanceMethod ({ cls := "NandHouse$Blocks", name := "lose", desc := "(I)V" } : Jvm.MethodName)) ∈ lw_all := lw_g (lw_at lw_m3 96 rfl) rfl
theorem q707 : (Jvm.Cond.code ({ cls := "NandHouse$Blocks", name := "lose", desc := "(I)V" } : Jvm.MethodName) prog_2_method_9_code (2 : Nat) (Option.none : Option Jvm.ClassFile.FieldType)) ∈ lw_all := lw_g (lw_at lw_m3 97 rfl) rfl
theorem q708 : (Jvm.Cond.methodLink "NandHouse$Blocks" (121 : Nat) ({ cls := "NandHouse$Flash", name := "giveUp", desc := "(I)V" } : Jvm.MethodName)) ∈ lw_all := lw_g (lw_at lw_m3 98 rfl) rfl
theorem q776 : (Jvm.Cond.instanceMethod ({ cls := "NandHouse$Blocks", name := "drop", desc := "(I)V" } : Jvm.MethodName)) ∈ lw_all := lw_g (lw_at lw_m3 166 rfl) rfl
theorem q777 : (Jvm.Cond.selects "NandHouse$Blocks" ({ cls := "NandHouse$Blocks", name := "drop", desc := "(I)V" } : Jvm.MethodName) ({ cls := "NandHouse$Blocks", name := "drop", desc := "(I)V" } : Jvm.MethodName)) ∈ lw_all := lw_g (lw_at lw_m3 167 rfl) rfl
theorem q778 : (Jvm.Cond.code ({ cls := "NandHouse$Blocks", name := "drop", desc := "(I)V" } : Jvm.MethodName) prog_2_method_23_code (2 : Nat) (Option.none : Option Jvm.ClassFile.FieldType)) ∈ lw_all := lw_g (lw_at lw_m3 168 rfl) rfl
theorem q779 : (Jvm.Cond.methodLink "NandHouse$Blocks" (166 : Nat) ({ cls := "NandHouse$Blocks", name := "stopMove", desc := "(I)V" } : Jvm.MethodName)) ∈ lw_all := lw_g (lw_at lw_m3 169 rfl) rfl
theorem q780 : (Jvm.Cond.privateMethod ({ cls := "NandHouse$Blocks", name := "stopMove", desc := "(I)V" } : Jvm.MethodName)) ∈ lw_tbl := lw_at lw_m3 170 rfl
theorem q781 : (Jvm.Cond.instanceMethod ({ cls := "NandHouse$Blocks", name := "stopMove", desc := "(I)V" } : Jvm.MethodName)) ∈ lw_all := lw_g (lw_at lw_m3 171 rfl) rfl
theorem q782 : (Jvm.Cond.code ({ cls := "NandHouse$Blocks", name := "stopMove", desc := "(I)V" } : Jvm.MethodName) prog_2_method_24_code (2 : Nat) (Option.none : Option Jvm.ClassFile.FieldType)) ∈ lw_all := lw_g (lw_at lw_m3 172 rfl) rfl
theorem q783 : (Jvm.Cond.methodLink "NandHouse$Blocks" (190 : Nat) ({ cls := "NandHouse$Blocks", name := "endMove", desc := "()V" } : Jvm.MethodName)) ∈ lw_all := lw_g (lw_at lw_m3 173 rfl) rfl
theorem q784 : (Jvm.Cond.privateMethod ({ cls := "NandHouse$Blocks", name := "endMove", desc := "()V" } : Jvm.MethodName)) ∈ lw_tbl := lw_at lw_m3 174 rfl
theorem q785 : (Jvm.Cond.instanceMethod ({ cls := "NandHouse$Blocks", name := "endMove", desc := "()V" } : Jvm.MethodName)) ∈ lw_all := lw_g (lw_at lw_m3 175 rfl) rfl
theorem q786 : (Jvm.Cond.code ({ cls := "NandHouse$Blocks", name := "endMove", desc := "()V" } : Jvm.MethodName) prog_2_method_25_code (1 : Nat) (Option.none : Option Jvm.ClassFile.FieldType)) ∈ lw_all := lw_g (lw_at lw_m3 176 rfl) rfl
theorem q861 : (Jvm.Cond.instanceMethod ({ cls := "NandHouse$Blocks", name := "write", desc := "(II[BI)V" } : Jvm.MethodName)) ∈ lw_all := lw_g (lw_at lw_m4 11 rfl) rfl
theorem q862 : (Jvm.Cond.selects "NandHouse$Blocks" ({ cls := "NandHouse$Blocks", name := "write", desc := "(II[BI)V" } : Jvm.MethodName) ({ cls := "NandHouse$Blocks", name := "write", desc := "(II[BI)V" } : Jvm.MethodName)) ∈ lw_all := lw_g (lw_at lw_m4 12 rfl) rfl
theorem q863 : (Jvm.Cond.code ({ cls := "NandHouse$Blocks", name := "write", desc := "(II[BI)V" } : Jvm.MethodName) prog_2_method_19_code (6 : Nat) (Option.none : Option Jvm.ClassFile.FieldType)) ∈ lw_all := lw_g (lw_at lw_m4 13 rfl) rfl
theorem q864 : (Jvm.Cond.methodLink "NandHouse$Blocks" (169 : Nat) ({ cls := "NandHouse$Blocks", name := "carry", desc := "(III)V" } : Jvm.MethodName)) ∈ lw_all := lw_g (lw_at lw_m4 14 rfl) rfl
theorem q865 : (Jvm.Cond.privateMethod ({ cls := "NandHouse$Blocks", name := "carry", desc := "(III)V" } : Jvm.MethodName)) ∈ lw_tbl := lw_at lw_m4 15 rfl
theorem q866 : (Jvm.Cond.instanceMethod ({ cls := "NandHouse$Blocks", name := "carry", desc := "(III)V" } : Jvm.MethodName)) ∈ lw_all := lw_g (lw_at lw_m4 16 rfl) rfl
theorem q867 : (Jvm.Cond.code ({ cls := "NandHouse$Blocks", name := "carry", desc := "(III)V" } : Jvm.MethodName) prog_2_method_18_code (7 : Nat) (Option.none : Option Jvm.ClassFile.FieldType)) ∈ lw_all := lw_g (lw_at lw_m4 17 rfl) rfl
theorem q868 : (Jvm.Cond.methodLink "NandHouse$Blocks" (151 : Nat) ({ cls := "NandHouse$Blocks", name := "fetch", desc := "()I" } : Jvm.MethodName)) ∈ lw_all := lw_g (lw_at lw_m4 18 rfl) rfl
theorem q869 : (Jvm.Cond.privateMethod ({ cls := "NandHouse$Blocks", name := "fetch", desc := "()I" } : Jvm.MethodName)) ∈ lw_tbl := lw_at lw_m4 19 rfl
theorem q870 : (Jvm.Cond.instanceMethod ({ cls := "NandHouse$Blocks", name := "fetch", desc := "()I" } : Jvm.MethodName)) ∈ lw_all := lw_g (lw_at lw_m4 20 rfl) rfl
theorem q871 : (Jvm.Cond.code ({ cls := "NandHouse$Blocks", name := "fetch", desc := "()I" } : Jvm.MethodName) prog_2_method_14_code (2 : Nat) (Option.some Jvm.ClassFile.FieldType.int)) ∈ lw_all := lw_g (lw_at lw_m4 21 rfl) rfl
theorem q872 : (Jvm.Cond.methodLink "NandHouse$Blocks" (133 : Nat) ({ cls := "NandHouse$Blocks", name := "freeOne", desc := "(Z)I" } : Jvm.MethodName)) ∈ lw_all := lw_g (lw_at lw_m4 22 rfl) rfl
theorem q873 : (Jvm.Cond.privateMethod ({ cls := "NandHouse$Blocks", name := "freeOne", desc := "(Z)I" } : Jvm.MethodName)) ∈ lw_tbl := lw_at lw_m4 23 rfl
theorem q874 : (Jvm.Cond.instanceMethod ({ cls := "NandHouse$Blocks", name := "freeOne", desc := "(Z)I" } : Jvm.MethodName)) ∈ lw_all := lw_g (lw_at lw_m4 24 rfl) rfl
theorem q875 : (Jvm.Cond.code ({ cls := "NandHouse$Blocks", name := "freeOne", desc := "(Z)I" } : Jvm.MethodName) prog_2_method_13_code (4 : Nat) (Option.some Jvm.ClassFile.FieldType.int)) ∈ lw_all := lw_g (lw_at lw_m4 25 rfl) rfl
theorem q876 : (Jvm.Cond.methodLink "NandHouse$Blocks" (137 : Nat) ({ cls := "NandHouse$Blocks", name := "eraseOne", desc := "()Z" } : Jvm.MethodName)) ∈ lw_all := lw_g (lw_at lw_m4 26 rfl) rfl
theorem q877 : (Jvm.Cond.instanceMethod ({ cls := "NandHouse$Blocks", name := "eraseOne", desc := "()Z" } : Jvm.MethodName)) ∈ lw_all := lw_g (lw_at lw_m4 27 rfl) rfl
theorem q878 : (Jvm.Cond.selects "NandHouse$Blocks" ({ cls := "NandHouse$Blocks", name := "eraseOne", desc := "()Z" } : Jvm.MethodName) ({ cls := "NandHouse$Blocks", name := "eraseOne", desc := "()Z" } : Jvm.MethodName)) ∈ lw_all := lw_g (lw_at lw_m4 28 rfl) rfl
theorem q879 : (Jvm.Cond.code ({ cls := "NandHouse$Blocks", name := "eraseOne", desc := "()Z" } : Jvm.MethodName) prog_2_method_11_code (2 : Nat) (Option.some Jvm.ClassFile.FieldType.boolean)) ∈ lw_all := lw_g (lw_at lw_m4 29 rfl) rfl
theorem q880 : (Jvm.Cond.classLink "NandHouse$Blocks" (155 : Nat) "java/lang/IllegalStateException") ∈ lw_all := lw_g (lw_at lw_m4 30 rfl) rfl
theorem q881 : (Jvm.Cond.stringRef "NandHouse$Blocks" (157 : Nat) "no block is left") ∈ lw_tbl := lw_at lw_m4 31 rfl
theorem q882 : (Jvm.Cond.methodLink "NandHouse$Blocks" (159 : Nat) ({ cls := "java/lang/IllegalStateException", name := "<init>", desc := "(Ljava/lang/String;)V" } : Jvm.MethodName)) ∈ lw_all := lw_g (lw_at lw_m4 32 rfl) rfl
theorem q883 : (Jvm.Cond.methodLink "NandHouse$Blocks" (162 : Nat) ({ cls := "NandHouse$Blocks", name := "writeHead", desc := "(IIZII)Z" } : Jvm.MethodName)) ∈ lw_all := lw_g (lw_at lw_m4 33 rfl) rfl
theorem q884 : (Jvm.Cond.privateMethod ({ cls := "NandHouse$Blocks", name := "writeHead", desc := "(IIZII)Z" } : Jvm.MethodName)) ∈ lw_tbl := lw_at lw_m4 34 rfl
theorem q885 : (Jvm.Cond.instanceMethod ({ cls := "NandHouse$Blocks", name := "writeHead", desc := "(IIZII)Z" } : Jvm.MethodName)) ∈ lw_all := lw_g (lw_at lw_m4 35 rfl) rfl
theorem q886 : (Jvm.Cond.code ({ cls := "NandHouse$Blocks", name := "writeHead", desc := "(IIZII)Z" } : Jvm.MethodName) prog_2_method_4_code (6 : Nat) (Option.some Jvm.ClassFile.FieldType.boolean)) ∈ lw_all := lw_g (lw_at lw_m4 36 rfl) rfl
theorem q887 : (Jvm.Cond.constant "NandHouse$Blocks" (69 : Nat) (1263289138 : Int32)) ∈ lw_all := lw_g (lw_at lw_m4 37 rfl) rfl
theorem q888 : (Jvm.Cond.methodLinkNest "NandHouse$Blocks" (74 : Nat) ({ cls := "NandHouse", name := "putLong", desc := "([BIJ)V" } : Jvm.MethodName) "NandHouse") ∈ lw_tbl := lw_at lw_m4 38 rfl
theorem q889 : (Jvm.Cond.methodLink "NandHouse$Blocks" (82 : Nat) ({ cls := "NandHouse$Flash", name := "read", desc := "(II[BI)V" } : Jvm.MethodName)) ∈ lw_all := lw_g (lw_at lw_m4 39 rfl) rfl
theorem q1018 : (Jvm.Cond.instanceMethod ({ cls := "NandHouse$Blocks", name := "written", desc := "(I)I" } : Jvm.MethodName)) ∈ lw_all := lw_g (lw_at lw_m4 168 rfl) rfl
theorem q1019 : (Jvm.Cond.selects "NandHouse$Blocks" ({ cls := "NandHouse$Blocks", name := "written", desc := "(I)I" } : Jvm.MethodName) ({ cls := "NandHouse$Blocks", name := "written", desc := "(I)I" } : Jvm.MethodName)) ∈ lw_all := lw_g (lw_at lw_m4 169 rfl) rfl
theorem q1020 : (Jvm.Cond.code ({ cls := "NandHouse$Blocks", name := "written", desc := "(I)I" } : Jvm.MethodName) prog_2_method_16_code (2 : Nat) (Option.some Jvm.ClassFile.FieldType.int)) ∈ lw_all := lw_g (lw_at lw_m4 170 rfl) rfl
theorem q1021 : (Jvm.Cond.methodLink "NandHouse$Blocks" (78 : Nat) ({ cls := "NandHouse$Flash", name := "written", desc := "(I)I" } : Jvm.MethodName)) ∈ lw_all := lw_g (lw_at lw_m4 171 rfl) rfl
theorem q1025 : (Jvm.Cond.methodLink "NandHouse$Blocks" (141 : Nat) ({ cls := "java/lang/Math", name := "max", desc := "(II)I" } : Jvm.MethodName)) ∈ lw_all := lw_g (lw_at lw_m4 175 rfl) rfl
theorem q1200 : (Jvm.Cond.instanceMethod ({ cls := "NandHouse$Blocks", name := "read", desc := "(II[BI)V" } : Jvm.MethodName)) ∈ lw_all := lw_g (lw_at lw_m5 110 rfl) rfl
theorem q1201 : (Jvm.Cond.selects "NandHouse$Blocks" ({ cls := "NandHouse$Blocks", name := "read", desc := "(II[BI)V" } : Jvm.MethodName) ({ cls := "NandHouse$Blocks", name := "read", desc := "(II[BI)V" } : Jvm.MethodName)) ∈ lw_all := lw_g (lw_at lw_m5 111 rfl) rfl
theorem q1202 : (Jvm.Cond.code ({ cls := "NandHouse$Blocks", name := "read", desc := "(II[BI)V" } : Jvm.MethodName) prog_2_method_17_code (5 : Nat) (Option.none : Option Jvm.ClassFile.FieldType)) ∈ lw_all := lw_g (lw_at lw_m5 112 rfl) rfl
theorem q1203 : (Jvm.Cond.methodLink "NandHouse$Blocks" (147 : Nat) ({ cls := "NandHouse$Blocks", name := "written", desc := "(I)I" } : Jvm.MethodName)) ∈ lw_all := lw_g (lw_at lw_m5 113 rfl) rfl
theorem q1204 : (Jvm.Cond.methodLink "NandHouse$Blocks" (148 : Nat) ({ cls := "java/util/Arrays", name := "fill", desc := "([BIIB)V" } : Jvm.MethodName)) ∈ lw_all := lw_g (lw_at lw_m5 114 rfl) rfl
theorem q1603 : (Jvm.Cond.instanceMethod ({ cls := "NandHouse$Blocks", name := "writeRule", desc := "(II)I" } : Jvm.MethodName)) ∈ lw_all := lw_g (lw_at lw_m7 33 rfl) rfl
theorem q1604 : (Jvm.Cond.selects "NandHouse$Blocks" ({ cls := "NandHouse$Blocks", name := "writeRule", desc := "(II)I" } : Jvm.MethodName) ({ cls := "NandHouse$Blocks", name := "writeRule", desc := "(II)I" } : Jvm.MethodName)) ∈ lw_all := lw_g (lw_at lw_m7 34 rfl) rfl
theorem q1605 : (Jvm.Cond.code ({ cls := "NandHouse$Blocks", name := "writeRule", desc := "(II)I" } : Jvm.MethodName) prog_2_method_22_code (4 : Nat) (Option.some Jvm.ClassFile.FieldType.int)) ∈ lw_all := lw_g (lw_at lw_m7 35 rfl) rfl
theorem q1606 : (Jvm.Cond.methodLink "NandHouse$Blocks" (173 : Nat) ({ cls := "NandHouse$Blocks", name := "rule", desc := "(I)V" } : Jvm.MethodName)) ∈ lw_all := lw_g (lw_at lw_m7 36 rfl) rfl
theorem q1607 : (Jvm.Cond.instanceMethod ({ cls := "NandHouse$Blocks", name := "rule", desc := "(I)V" } : Jvm.MethodName)) ∈ lw_all := lw_g (lw_at lw_m7 37 rfl) rfl
theorem q1608 : (Jvm.Cond.selects "NandHouse$Blocks" ({ cls := "NandHouse$Blocks", name := "rule", desc := "(I)V" } : Jvm.MethodName) ({ cls := "NandHouse$Blocks", name := "rule", desc := "(I)V" } : Jvm.MethodName)) ∈ lw_all := lw_g (lw_at lw_m7 38 rfl) rfl
theorem q1609 : (Jvm.Cond.code ({ cls := "NandHouse$Blocks", name := "rule", desc := "(I)V" } : Jvm.MethodName) prog_2_method_21_code (3 : Nat) (Option.none : Option Jvm.ClassFile.FieldType)) ∈ lw_all := lw_g (lw_at lw_m7 39 rfl) rfl
theorem q1610 : (Jvm.Cond.methodLink "NandHouse$Blocks" (176 : Nat) ({ cls := "java/lang/System", name := "arraycopy", desc := "(Ljava/lang/Object;ILjava/lang/Object;II)V" } : Jvm.MethodName)) ∈ lw_all := lw_g (lw_at lw_m7 40 rfl) rfl
theorem q1611 : (Jvm.Cond.methodLink "NandHouse$Blocks" (182 : Nat) ({ cls := "NandHouse$Blocks", name := "write", desc := "(II[BI)V" } : Jvm.MethodName)) ∈ lw_all := lw_g (lw_at lw_m7 41 rfl) rfl
theorem q1617 : (Jvm.Cond.instanceMethod ({ cls := "NandHouse$Blocks", name := "change", desc := "(III)V" } : Jvm.MethodName)) ∈ lw_all := lw_g (lw_at lw_m7 47 rfl) rfl
theorem q1618 : (Jvm.Cond.selects "NandHouse$Blocks" ({ cls := "NandHouse$Blocks", name := "change", desc := "(III)V" } : Jvm.MethodName) ({ cls := "NandHouse$Blocks", name := "change", desc := "(III)V" } : Jvm.MethodName)) ∈ lw_all := lw_g (lw_at lw_m7 48 rfl) rfl
theorem q1619 : (Jvm.Cond.code ({ cls := "NandHouse$Blocks", name := "change", desc := "(III)V" } : Jvm.MethodName) prog_2_method_20_code (9 : Nat) (Option.none : Option Jvm.ClassFile.FieldType)) ∈ lw_all := lw_g (lw_at lw_m7 49 rfl) rfl
theorem q1661 : (Jvm.Cond.instanceMethod ({ cls := "NandHouse$Blocks", name := "attach", desc := "()V" } : Jvm.MethodName)) ∈ lw_all := lw_g (lw_at lw_m7 91 rfl) rfl
theorem q1662 : (Jvm.Cond.selects "NandHouse$Blocks" ({ cls := "NandHouse$Blocks", name := "attach", desc := "()V" } : Jvm.MethodName) ({ cls := "NandHouse$Blocks", name := "attach", desc := "()V" } : Jvm.MethodName)) ∈ lw_all := lw_g (lw_at lw_m7 92 rfl) rfl
theorem q1663 : (Jvm.Cond.code ({ cls := "NandHouse$Blocks", name := "attach", desc := "()V" } : Jvm.MethodName) prog_2_method_30_code (6 : Nat) (Option.none : Option Jvm.ClassFile.FieldType)) ∈ lw_all := lw_g (lw_at lw_m7 93 rfl) rfl
theorem q1664 : (Jvm.Cond.methodLink "NandHouse$Blocks" (213 : Nat) ({ cls := "NandHouse$Flash", name := "isBroken", desc := "(I)Z" } : Jvm.MethodName)) ∈ lw_all := lw_g (lw_at lw_m7 94 rfl) rfl
theorem q1668 : (Jvm.Cond.methodLink "NandHouse$Blocks" (216 : Nat) ({ cls := "NandHouse$Blocks", name := "readErased", desc := "(I)I" } : Jvm.MethodName)) ∈ lw_all := lw_g (lw_at lw_m7 98 rfl) rfl
theorem q1669 : (Jvm.Cond.privateMethod ({ cls := "NandHouse$Blocks", name := "readErased", desc := "(I)I" } : Jvm.MethodName)) ∈ lw_tbl := lw_at lw_m7 99 rfl
theorem q1670 : (Jvm.Cond.instanceMethod ({ cls := "NandHouse$Blocks", name := "readErased", desc := "(I)I" } : Jvm.MethodName)) ∈ lw_all := lw_g (lw_at lw_m7 100 rfl) rfl
theorem q1671 : (Jvm.Cond.code ({ cls := "NandHouse$Blocks", name := "readErased", desc := "(I)I" } : Jvm.MethodName) prog_2_method_5_code (2 : Nat) (Option.some Jvm.ClassFile.FieldType.int)) ∈ lw_all := lw_g (lw_at lw_m7 101 rfl) rfl
theorem q1672 : (Jvm.Cond.methodLinkNest "NandHouse$Blocks" (86 : Nat) ({ cls := "NandHouse", name := "getInt", desc := "([BI)I" } : Jvm.MethodName) "NandHouse") ∈ lw_tbl := lw_at lw_m7 102 rfl
theorem q1673 : (Jvm.Cond.methodLink "NandHouse$Blocks" (219 : Nat) ({ cls := "NandHouse$Blocks", name := "readHead", desc := "(I)Z" } : Jvm.MethodName)) ∈ lw_all := lw_g (lw_at lw_m7 103 rfl) rfl
theorem q1674 : (Jvm.Cond.privateMethod ({ cls := "NandHouse$Blocks", name := "readHead", desc := "(I)Z" } : Jvm.MethodName)) ∈ lw_tbl := lw_at lw_m7 104 rfl
theorem q1675 : (Jvm.Cond.instanceMethod ({ cls := "NandHouse$Blocks", name := "readHead", desc := "(I)Z" } : Jvm.MethodName)) ∈ lw_all := lw_g (lw_at lw_m7 105 rfl) rfl
theorem q1676 : (Jvm.Cond.code ({ cls := "NandHouse$Blocks", name := "readHead", desc := "(I)Z" } : Jvm.MethodName) prog_2_method_6_code (2 : Nat) (Option.some Jvm.ClassFile.FieldType.boolean)) ∈ lw_all := lw_g (lw_at lw_m7 106 rfl) rfl
theorem q1677 : (Jvm.Cond.methodLinkNest "NandHouse$Blocks" (93 : Nat) ({ cls := "NandHouse", name := "getLong", desc := "([BI)J" } : Jvm.MethodName) "NandHouse") ∈ lw_tbl := lw_at lw_m7 107 rfl
theorem q1678 : (Jvm.Cond.methodLinkNest "NandHouse$Blocks" (110 : Nat) ({ cls := "NandHouse", name := "isIn", desc := "(III)Z" } : Jvm.MethodName) "NandHouse") ∈ lw_tbl := lw_at lw_m7 108 rfl
theorem q1679 : (Jvm.Cond.methodLink "NandHouse$Blocks" (222 : Nat) ({ cls := "NandHouse$Blocks", name := "claim", desc := "(I)V" } : Jvm.MethodName)) ∈ lw_all := lw_g (lw_at lw_m7 109 rfl) rfl
theorem q1680 : (Jvm.Cond.privateMethod ({ cls := "NandHouse$Blocks", name := "claim", desc := "(I)V" } : Jvm.MethodName)) ∈ lw_tbl := lw_at lw_m7 110 rfl
theorem q1681 : (Jvm.Cond.instanceMethod ({ cls := "NandHouse$Blocks", name := "claim", desc := "(I)V" } : Jvm.MethodName)) ∈ lw_all := lw_g (lw_at lw_m7 111 rfl) rfl
theorem q1682 : (Jvm.Cond.code ({ cls := "NandHouse$Blocks", name := "claim", desc := "(I)V" } : Jvm.MethodName) prog_2_method_31_code (8 : Nat) (Option.none : Option Jvm.ClassFile.FieldType)) ∈ lw_all := lw_g (lw_at lw_m7 112 rfl) rfl
theorem q1683 : (Jvm.Cond.methodLink "NandHouse$Blocks" (210 : Nat) ({ cls := "NandHouse$Blocks", name := "checkOf", desc := "(II)I" } : Jvm.MethodName)) ∈ lw_all := lw_g (lw_at lw_m7 113 rfl) rfl
theorem q1684 : (Jvm.Cond.privateMethod ({ cls := "NandHouse$Blocks", name := "checkOf", desc := "(II)I" } : Jvm.MethodName)) ∈ lw_tbl := lw_at lw_m7 114 rfl
theorem q1685 : (Jvm.Cond.instanceMethod ({ cls := "NandHouse$Blocks", name := "checkOf", desc := "(II)I" } : Jvm.MethodName)) ∈ lw_all := lw_g (lw_at lw_m7 115 rfl) rfl
theorem q1686 : (Jvm.Cond.code ({ cls := "NandHouse$Blocks", name := "checkOf", desc := "(II)I" } : Jvm.MethodName) prog_2_method_7_code (5 : Nat) (Option.some Jvm.ClassFile.FieldType.int)) ∈ lw_all := lw_g (lw_at lw_m7 116 rfl) rfl
theorem q1687 : (Jvm.Cond.methodLink "NandHouse$Blocks" (225 : Nat) ({ cls := "java/lang/Math", name := "max", desc := "(JJ)J" } : Jvm.MethodName)) ∈ lw_all := lw_g (lw_at lw_m7 117 rfl) rfl
theorem q1743 : (Jvm.Cond.instanceMethod ({ cls := "NandHouse$Blocks", name := "moveStep", desc := "()Z" } : Jvm.MethodName)) ∈ lw_all := lw_g (lw_at lw_m7 173 rfl) rfl
theorem q1744 : (Jvm.Cond.selects "NandHouse$Blocks" ({ cls := "NandHouse$Blocks", name := "moveStep", desc := "()Z" } : Jvm.MethodName) ({ cls := "NandHouse$Blocks", name := "moveStep", desc := "()Z" } : Jvm.MethodName)) ∈ lw_all := lw_g (lw_at lw_m7 174 rfl) rfl
theorem q1745 : (Jvm.Cond.code ({ cls := "NandHouse$Blocks", name := "moveStep", desc := "()Z" } : Jvm.MethodName) prog_2_method_27_code (2 : Nat) (Option.some Jvm.ClassFile.FieldType.boolean)) ∈ lw_all := lw_g (lw_at lw_m7 175 rfl) rfl
theorem q1746 : (Jvm.Cond.methodLink "NandHouse$Blocks" (199 : Nat) ({ cls := "NandHouse$Blocks", name := "beginMove", desc := "()Z" } : Jvm.MethodName)) ∈ lw_all := lw_g (lw_at lw_m7 176 rfl) rfl
theorem q1747 : (Jvm.Cond.privateMethod ({ cls := "NandHouse$Blocks", name := "beginMove", desc := "()Z" } : Jvm.MethodName)) ∈ lw_tbl := lw_at lw_m7 177 rfl
theorem q1748 : (Jvm.Cond.instanceMethod ({ cls := "NandHouse$Blocks", name := "beginMove", desc := "()Z" } : Jvm.MethodName)) ∈ lw_all := lw_g (lw_at lw_m7 178 rfl) rfl
theorem q1749 : (Jvm.Cond.code ({ cls := "NandHouse$Blocks", name := "beginMove", desc := "()Z" } : Jvm.MethodName) prog_2_method_29_code (3 : Nat) (Option.some Jvm.ClassFile.FieldType.boolean)) ∈ lw_all := lw_g (lw_at lw_m7 179 rfl) rfl
theorem q1750 : (Jvm.Cond.methodLink "NandHouse$Blocks" (205 : Nat) ({ cls := "NandHouse$Blocks", name := "count", desc := "(I)I" } : Jvm.MethodName)) ∈ lw_all := lw_g (lw_at lw_m7 180 rfl) rfl
theorem q1751 : (Jvm.Cond.privateMethod ({ cls := "NandHouse$Blocks", name := "count", desc := "(I)I" } : Jvm.MethodName)) ∈ lw_tbl := lw_at lw_m7 181 rfl
theorem q1752 : (Jvm.Cond.instanceMethod ({ cls := "NandHouse$Blocks", name := "count", desc := "(I)I" } : Jvm.MethodName)) ∈ lw_all := lw_g (lw_at lw_m7 182 rfl) rfl
theorem q1753 : (Jvm.Cond.code ({ cls := "NandHouse$Blocks", name := "count", desc := "(I)I" } : Jvm.MethodName) prog_2_method_12_code (4 : Nat) (Option.some Jvm.ClassFile.FieldType.int)) ∈ lw_all := lw_g (lw_at lw_m7 183 rfl) rfl
theorem q1754 : (Jvm.Cond.methodLink "NandHouse$Blocks" (208 : Nat) ({ cls := "NandHouse$Blocks", name := "toMove", desc := "()I" } : Jvm.MethodName)) ∈ lw_all := lw_g (lw_at lw_m7 184 rfl) rfl
theorem q1755 : (Jvm.Cond.privateMethod ({ cls := "NandHouse$Blocks", name := "toMove", desc := "()I" } : Jvm.MethodName)) ∈ lw_tbl := lw_at lw_m7 185 rfl
theorem q1756 : (Jvm.Cond.instanceMethod ({ cls := "NandHouse$Blocks", name := "toMove", desc := "()I" } : Jvm.MethodName)) ∈ lw_all := lw_g (lw_at lw_m7 186 rfl) rfl
theorem q1757 : (Jvm.Cond.code ({ cls := "NandHouse$Blocks", name := "toMove", desc := "()I" } : Jvm.MethodName) prog_2_method_26_code (3 : Nat) (Option.some Jvm.ClassFile.FieldType.int)) ∈ lw_all := lw_g (lw_at lw_m7 187 rfl) rfl
theorem q1758 : (Jvm.Cond.methodLink "NandHouse$Blocks" (196 : Nat) ({ cls := "NandHouse$Flash", name := "isWeak", desc := "(I)Z" } : Jvm.MethodName)) ∈ lw_all := lw_g (lw_at lw_m7 188 rfl) rfl
theorem q1762 : (Jvm.Cond.methodLink "NandHouse$Blocks" (202 : Nat) ({ cls := "NandHouse$Blocks", name := "failMove", desc := "()V" } : Jvm.MethodName)) ∈ lw_all := lw_g (lw_at lw_m7 192 rfl) rfl
theorem q1763 : (Jvm.Cond.privateMethod ({ cls := "NandHouse$Blocks", name := "failMove", desc := "()V" } : Jvm.MethodName)) ∈ lw_tbl := lw_at lw_m7 193 rfl
theorem q1764 : (Jvm.Cond.instanceMethod ({ cls := "NandHouse$Blocks", name := "failMove", desc := "()V" } : Jvm.MethodName)) ∈ lw_all := lw_g (lw_at lw_m7 194 rfl) rfl
theorem q1765 : (Jvm.Cond.code ({ cls := "NandHouse$Blocks", name := "failMove", desc := "()V" } : Jvm.MethodName) prog_2_method_28_code (1 : Nat) (Option.none : Option Jvm.ClassFile.FieldType)) ∈ lw_all := lw_g (lw_at lw_m7 195 rfl) rfl
theorem q1807 : (Jvm.Cond.instanceMethod ({ cls := "NandHouse$Blocks", name := "isSound", desc := "()Z" } : Jvm.MethodName)) ∈ lw_all := lw_g (lw_at lw_m7 237 rfl) rfl
theorem q1808 : (Jvm.Cond.selects "NandHouse$Blocks" ({ cls := "NandHouse$Blocks", name := "isSound", desc := "()Z" } : Jvm.MethodName) ({ cls := "NandHouse$Blocks", name := "isSound", desc := "()Z" } : Jvm.MethodName)) ∈ lw_all := lw_g (lw_at lw_m7 238 rfl) rfl
theorem q1809 : (Jvm.Cond.code ({ cls := "NandHouse$Blocks", name := "isSound", desc := "()Z" } : Jvm.MethodName) prog_2_method_32_code (5 : Nat) (Option.some Jvm.ClassFile.FieldType.boolean)) ∈ lw_all := lw_g (lw_at lw_m7 239 rfl) rfl
theorem in_X6 : ∀ w ∈ wsX60, w ∈ lw_all := lw_in wsX60 [289, 291, 293, 295, 297, 299, 301, 303, 305, 307, 309, 311, 313, 315, 317, 319, 321, 323] (by decide +kernel) (by decide +kernel)
/-! NandHouse$Index -/
set_option maxRecDepth 100000
def RX8 : String := "NandHouse$Index"
def TX8 : u_T := fun k => match k with
  | 0 => ("NandHouse$Index", "space", "LNandHouse$Space;", true)
  | 1 => ("NandHouse$Index", "pool", "[LNandHouse$Knot;", true)
  | 2 => ("NandHouse$Index", "free", "I", false)
  | 3 => ("NandHouse$Index", "root", "LNandHouse$Knot;", false)
  | 4 => ("NandHouse$Index", "oldNumber", "[I", true)
  | 5 => ("NandHouse$Index", "oldSize", "[I", true)
  | 6 => ("NandHouse$Index", "olds", "I", false)
  | 7 => ("NandHouse$Index", "high", "J", false)
  | 8 => ("NandHouse$Index", "low", "J", false)
  | 9 => ("NandHouse$Index", "number", "I", false)
  | 10 => ("NandHouse$Index", "place", "I", false)
  | 11 => ("NandHouse$Index", "size", "I", false)
  | 12 => ("NandHouse$Index", "leaf", "LNandHouse$Knot;", false)
  | _ => ("NandHouse$Index", "at", "I", false)
def tyX8 : Nat → FieldType := fun k => match k with
  | 0 => .object "NandHouse$Space"
  | 1 => .array (.object "NandHouse$Knot")
  | 2 => .int
  | 3 => .object "NandHouse$Knot"
  | 4 => .array .int
  | 5 => .array .int
  | 6 => .int
  | 7 => .long
  | 8 => .long
  | 9 => .int
  | 10 => .int
  | 11 => .int
  | 12 => .object "NandHouse$Knot"
  | _ => .int
abbrev wsX80 : List Cond := u_ws RX8 TX8 14
set_option maxRecDepth 100000 in
theorem nmX8 : ∀ a, a < 14 → ∀ b, b < 14 → a ≠ b → (TX8 a).2.1 ≠ (TX8 b).2.1 := by decide +kernel
set_option maxRecDepth 100000 in
theorem tyX8_ok : ∀ k, k < 14 → parseFieldDescriptor (TX8 k).2.2.1 = some (tyX8 k) := by decide +kernel
abbrev cX8_init : ByteArray := prog_4_method_1_code
def yX8_init : MethodName := ⟨RX8, "<init>", "(LNandHouse$Space;)V"⟩
def dkwX8_init_2 : List UInt8 := [180, 0, 13, 28, 187, 0, 11, 89, 183, 0, 28, 83, 132, 2, 1, 167, 255, 233, 177]
abbrev dktX8_init_2 : List UInt8 := dkwX8_init_2 ++ []
def dkwX8_init_1 : List UInt8 := [17, 2, 128, 188, 10, 181, 0, 21, 42, 43, 181, 0, 24, 3, 61, 28, 17, 1, 64, 162, 0, 22, 42]
abbrev dktX8_init_1 : List UInt8 := dkwX8_init_1 ++ dktX8_init_2
def dkwX8_init_0 : List UInt8 := [42, 183, 0, 3, 42, 17, 1, 64, 189, 0, 11, 181, 0, 13, 42, 17, 2, 128, 188, 10, 181, 0, 17, 42]
abbrev dktX8_init_0 : List UInt8 := dkwX8_init_0 ++ dktX8_init_1
theorem dksX8_init_0 : cX8_init.data.toList.drop 0 = dktX8_init_0 := by decide +kernel
theorem dksX8_init_1 : cX8_init.data.toList.drop 24 = dktX8_init_1 := dk_seg dksX8_init_0 24 rfl rfl
theorem dksX8_init_2 : cX8_init.data.toList.drop 47 = dktX8_init_2 := dk_seg dksX8_init_1 23 rfl rfl
theorem dX8_init_0 : decode cX8_init 0 = .ok (.aload_n 0, 1) := dk_42 (dk_at dksX8_init_0 0 rfl rfl)
theorem dX8_init_1 : decode cX8_init 1 = .ok (.invokespecial 3, 3) := dk_183 0 3 (dk_at dksX8_init_0 1 rfl rfl)
theorem dX8_init_4 : decode cX8_init 4 = .ok (.aload_n 0, 1) := dk_42 (dk_at dksX8_init_0 4 rfl rfl)
theorem dX8_init_5 : decode cX8_init 5 = .ok (.sipush 320, 3) := dk_17 1 64 (dk_at dksX8_init_0 5 rfl rfl)
theorem dX8_init_8 : decode cX8_init 8 = .ok (.anewarray 11, 3) := dk_189 0 11 (dk_at dksX8_init_0 8 rfl rfl)
theorem dX8_init_11 : decode cX8_init 11 = .ok (.putfield 13, 3) := dk_181 0 13 (dk_at dksX8_init_0 11 rfl rfl)
theorem dX8_init_14 : decode cX8_init 14 = .ok (.aload_n 0, 1) := dk_42 (dk_at dksX8_init_0 14 rfl rfl)
theorem dX8_init_15 : decode cX8_init 15 = .ok (.sipush 640, 3) := dk_17 2 128 (dk_at dksX8_init_0 15 rfl rfl)
theorem dX8_init_18 : decode cX8_init 18 = .ok (.newarray .int, 2) := dk_188_10 (dk_at dksX8_init_0 18 rfl rfl)
theorem dX8_init_20 : decode cX8_init 20 = .ok (.putfield 17, 3) := dk_181 0 17 (dk_at dksX8_init_0 20 rfl rfl)
theorem dX8_init_23 : decode cX8_init 23 = .ok (.aload_n 0, 1) := dk_42 (dk_at dksX8_init_0 23 rfl rfl)
theorem dX8_init_24 : decode cX8_init 24 = .ok (.sipush 640, 3) := dk_17 2 128 (dk_at dksX8_init_1 0 rfl rfl)
theorem dX8_init_27 : decode cX8_init 27 = .ok (.newarray .int, 2) := dk_188_10 (dk_at dksX8_init_1 3 rfl rfl)
theorem dX8_init_29 : decode cX8_init 29 = .ok (.putfield 21, 3) := dk_181 0 21 (dk_at dksX8_init_1 5 rfl rfl)
theorem dX8_init_32 : decode cX8_init 32 = .ok (.aload_n 0, 1) := dk_42 (dk_at dksX8_init_1 8 rfl rfl)
theorem dX8_init_33 : decode cX8_init 33 = .ok (.aload_n 1, 1) := dk_43 (dk_at dksX8_init_1 9 rfl rfl)
theorem dX8_init_34 : decode cX8_init 34 = .ok (.putfield 24, 3) := dk_181 0 24 (dk_at dksX8_init_1 10 rfl rfl)
theorem dX8_init_37 : decode cX8_init 37 = .ok (.iconst 0, 1) := dk_3 (dk_at dksX8_init_1 13 rfl rfl)
theorem dX8_init_38 : decode cX8_init 38 = .ok (.istore_n 2, 1) := dk_61 (dk_at dksX8_init_1 14 rfl rfl)
theorem dX8_init_39 : decode cX8_init 39 = .ok (.iload_n 2, 1) := dk_28 (dk_at dksX8_init_1 15 rfl rfl)
theorem dX8_init_40 : decode cX8_init 40 = .ok (.sipush 320, 3) := dk_17 1 64 (dk_at dksX8_init_1 16 rfl rfl)
theorem dX8_init_43 : decode cX8_init 43 = .ok (.if_icmp .ge 22, 3) := dk_162 0 22 (dk_at dksX8_init_1 19 rfl rfl)
theorem dX8_init_46 : decode cX8_init 46 = .ok (.aload_n 0, 1) := dk_42 (dk_at dksX8_init_1 22 rfl rfl)
theorem dX8_init_47 : decode cX8_init 47 = .ok (.getfield 13, 3) := dk_180 0 13 (dk_at dksX8_init_2 0 rfl rfl)
theorem dX8_init_50 : decode cX8_init 50 = .ok (.iload_n 2, 1) := dk_28 (dk_at dksX8_init_2 3 rfl rfl)
theorem dX8_init_51 : decode cX8_init 51 = .ok (.new 11, 3) := dk_187 0 11 (dk_at dksX8_init_2 4 rfl rfl)
theorem dX8_init_54 : decode cX8_init 54 = .ok (.dup, 1) := dk_89 (dk_at dksX8_init_2 7 rfl rfl)
theorem dX8_init_55 : decode cX8_init 55 = .ok (.invokespecial 28, 3) := dk_183 0 28 (dk_at dksX8_init_2 8 rfl rfl)
theorem dX8_init_58 : decode cX8_init 58 = .ok (.aastore, 1) := dk_83 (dk_at dksX8_init_2 11 rfl rfl)
theorem dX8_init_59 : decode cX8_init 59 = .ok (.iinc 2 1, 3) := dk_132 2 1 (dk_at dksX8_init_2 12 rfl rfl)
theorem dX8_init_62 : decode cX8_init 62 = .ok (.goto (-23), 3) := dk_167 255 233 (dk_at dksX8_init_2 15 rfl rfl)
theorem dX8_init_65 : decode cX8_init 65 = .ok (.return_, 1) := dk_177 (dk_at dksX8_init_2 18 rfl rfl)
abbrev cX8_clear : ByteArray := prog_4_method_2_code
def yX8_clear : MethodName := ⟨RX8, "clear", "()V"⟩
def dkwX8_clear_1 : List UInt8 := [182, 0, 41, 181, 0, 29, 177]
abbrev dktX8_clear_1 : List UInt8 := dkwX8_clear_1 ++ []
def dkwX8_clear_0 : List UInt8 := [42, 180, 0, 29, 198, 0, 11, 42, 42, 180, 0, 29, 182, 0, 33, 42, 3, 181, 0, 37, 42, 42, 3]
abbrev dktX8_clear_0 : List UInt8 := dkwX8_clear_0 ++ dktX8_clear_1
theorem dksX8_clear_0 : cX8_clear.data.toList.drop 0 = dktX8_clear_0 := by decide +kernel
theorem dksX8_clear_1 : cX8_clear.data.toList.drop 23 = dktX8_clear_1 := dk_seg dksX8_clear_0 23 rfl rfl
theorem dX8_clear_0 : decode cX8_clear 0 = .ok (.aload_n 0, 1) := dk_42 (dk_at dksX8_clear_0 0 rfl rfl)
theorem dX8_clear_1 : decode cX8_clear 1 = .ok (.getfield 29, 3) := dk_180 0 29 (dk_at dksX8_clear_0 1 rfl rfl)
theorem dX8_clear_4 : decode cX8_clear 4 = .ok (.ifnull 11, 3) := dk_198 0 11 (dk_at dksX8_clear_0 4 rfl rfl)
theorem dX8_clear_7 : decode cX8_clear 7 = .ok (.aload_n 0, 1) := dk_42 (dk_at dksX8_clear_0 7 rfl rfl)
theorem dX8_clear_8 : decode cX8_clear 8 = .ok (.aload_n 0, 1) := dk_42 (dk_at dksX8_clear_0 8 rfl rfl)
theorem dX8_clear_9 : decode cX8_clear 9 = .ok (.getfield 29, 3) := dk_180 0 29 (dk_at dksX8_clear_0 9 rfl rfl)
theorem dX8_clear_12 : decode cX8_clear 12 = .ok (.invokevirtual 33, 3) := dk_182 0 33 (dk_at dksX8_clear_0 12 rfl rfl)
theorem dX8_clear_15 : decode cX8_clear 15 = .ok (.aload_n 0, 1) := dk_42 (dk_at dksX8_clear_0 15 rfl rfl)
theorem dX8_clear_16 : decode cX8_clear 16 = .ok (.iconst 0, 1) := dk_3 (dk_at dksX8_clear_0 16 rfl rfl)
theorem dX8_clear_17 : decode cX8_clear 17 = .ok (.putfield 37, 3) := dk_181 0 37 (dk_at dksX8_clear_0 17 rfl rfl)
theorem dX8_clear_20 : decode cX8_clear 20 = .ok (.aload_n 0, 1) := dk_42 (dk_at dksX8_clear_0 20 rfl rfl)
theorem dX8_clear_21 : decode cX8_clear 21 = .ok (.aload_n 0, 1) := dk_42 (dk_at dksX8_clear_0 21 rfl rfl)
theorem dX8_clear_22 : decode cX8_clear 22 = .ok (.iconst 0, 1) := dk_3 (dk_at dksX8_clear_0 22 rfl rfl)
theorem dX8_clear_23 : decode cX8_clear 23 = .ok (.invokevirtual 41, 3) := dk_182 0 41 (dk_at dksX8_clear_1 0 rfl rfl)
theorem dX8_clear_26 : decode cX8_clear 26 = .ok (.putfield 29, 3) := dk_181 0 29 (dk_at dksX8_clear_1 3 rfl rfl)
theorem dX8_clear_29 : decode cX8_clear 29 = .ok (.return_, 1) := dk_177 (dk_at dksX8_clear_1 6 rfl rfl)
abbrev cX8_giveAll : ByteArray := prog_4_method_4_code
def yX8_giveAll : MethodName := ⟨RX8, "giveAll", "(LNandHouse$Knot;)V"⟩
def dkwX8_giveAll_2 : List UInt8 := [43, 83, 177]
abbrev dktX8_giveAll_2 : List UInt8 := dkwX8_giveAll_2 ++ []
def dkwX8_giveAll_1 : List UInt8 := [182, 0, 33, 132, 2, 1, 167, 255, 228, 42, 180, 0, 13, 42, 89, 180, 0, 54, 4, 100, 90, 181, 0, 54]
abbrev dktX8_giveAll_1 : List UInt8 := dkwX8_giveAll_1 ++ dktX8_giveAll_2
def dkwX8_giveAll_0 : List UInt8 := [3, 61, 28, 43, 180, 0, 45, 162, 0, 26, 43, 180, 0, 48, 158, 0, 19, 42, 43, 180, 0, 51, 28, 50]
abbrev dktX8_giveAll_0 : List UInt8 := dkwX8_giveAll_0 ++ dktX8_giveAll_1
theorem dksX8_giveAll_0 : cX8_giveAll.data.toList.drop 0 = dktX8_giveAll_0 := by decide +kernel
theorem dksX8_giveAll_1 : cX8_giveAll.data.toList.drop 24 = dktX8_giveAll_1 := dk_seg dksX8_giveAll_0 24 rfl rfl
theorem dksX8_giveAll_2 : cX8_giveAll.data.toList.drop 48 = dktX8_giveAll_2 := dk_seg dksX8_giveAll_1 24 rfl rfl
theorem dX8_giveAll_0 : decode cX8_giveAll 0 = .ok (.iconst 0, 1) := dk_3 (dk_at dksX8_giveAll_0 0 rfl rfl)
theorem dX8_giveAll_1 : decode cX8_giveAll 1 = .ok (.istore_n 2, 1) := dk_61 (dk_at dksX8_giveAll_0 1 rfl rfl)
theorem dX8_giveAll_2 : decode cX8_giveAll 2 = .ok (.iload_n 2, 1) := dk_28 (dk_at dksX8_giveAll_0 2 rfl rfl)
theorem dX8_giveAll_3 : decode cX8_giveAll 3 = .ok (.aload_n 1, 1) := dk_43 (dk_at dksX8_giveAll_0 3 rfl rfl)
theorem dX8_giveAll_4 : decode cX8_giveAll 4 = .ok (.getfield 45, 3) := dk_180 0 45 (dk_at dksX8_giveAll_0 4 rfl rfl)
theorem dX8_giveAll_7 : decode cX8_giveAll 7 = .ok (.if_icmp .ge 26, 3) := dk_162 0 26 (dk_at dksX8_giveAll_0 7 rfl rfl)
theorem dX8_giveAll_10 : decode cX8_giveAll 10 = .ok (.aload_n 1, 1) := dk_43 (dk_at dksX8_giveAll_0 10 rfl rfl)
theorem dX8_giveAll_11 : decode cX8_giveAll 11 = .ok (.getfield 48, 3) := dk_180 0 48 (dk_at dksX8_giveAll_0 11 rfl rfl)
theorem dX8_giveAll_14 : decode cX8_giveAll 14 = .ok (.ifCond .le 19, 3) := dk_158 0 19 (dk_at dksX8_giveAll_0 14 rfl rfl)
theorem dX8_giveAll_17 : decode cX8_giveAll 17 = .ok (.aload_n 0, 1) := dk_42 (dk_at dksX8_giveAll_0 17 rfl rfl)
theorem dX8_giveAll_18 : decode cX8_giveAll 18 = .ok (.aload_n 1, 1) := dk_43 (dk_at dksX8_giveAll_0 18 rfl rfl)
theorem dX8_giveAll_19 : decode cX8_giveAll 19 = .ok (.getfield 51, 3) := dk_180 0 51 (dk_at dksX8_giveAll_0 19 rfl rfl)
theorem dX8_giveAll_22 : decode cX8_giveAll 22 = .ok (.iload_n 2, 1) := dk_28 (dk_at dksX8_giveAll_0 22 rfl rfl)
theorem dX8_giveAll_23 : decode cX8_giveAll 23 = .ok (.aaload, 1) := dk_50 (dk_at dksX8_giveAll_0 23 rfl rfl)
theorem dX8_giveAll_24 : decode cX8_giveAll 24 = .ok (.invokevirtual 33, 3) := dk_182 0 33 (dk_at dksX8_giveAll_1 0 rfl rfl)
theorem dX8_giveAll_27 : decode cX8_giveAll 27 = .ok (.iinc 2 1, 3) := dk_132 2 1 (dk_at dksX8_giveAll_1 3 rfl rfl)
theorem dX8_giveAll_30 : decode cX8_giveAll 30 = .ok (.goto (-28), 3) := dk_167 255 228 (dk_at dksX8_giveAll_1 6 rfl rfl)
theorem dX8_giveAll_33 : decode cX8_giveAll 33 = .ok (.aload_n 0, 1) := dk_42 (dk_at dksX8_giveAll_1 9 rfl rfl)
theorem dX8_giveAll_34 : decode cX8_giveAll 34 = .ok (.getfield 13, 3) := dk_180 0 13 (dk_at dksX8_giveAll_1 10 rfl rfl)
theorem dX8_giveAll_37 : decode cX8_giveAll 37 = .ok (.aload_n 0, 1) := dk_42 (dk_at dksX8_giveAll_1 13 rfl rfl)
theorem dX8_giveAll_38 : decode cX8_giveAll 38 = .ok (.dup, 1) := dk_89 (dk_at dksX8_giveAll_1 14 rfl rfl)
theorem dX8_giveAll_39 : decode cX8_giveAll 39 = .ok (.getfield 54, 3) := dk_180 0 54 (dk_at dksX8_giveAll_1 15 rfl rfl)
theorem dX8_giveAll_42 : decode cX8_giveAll 42 = .ok (.iconst 1, 1) := dk_4 (dk_at dksX8_giveAll_1 18 rfl rfl)
theorem dX8_giveAll_43 : decode cX8_giveAll 43 = .ok (.isub, 1) := dk_100 (dk_at dksX8_giveAll_1 19 rfl rfl)
theorem dX8_giveAll_44 : decode cX8_giveAll 44 = .ok (.dup_x1, 1) := dk_90 (dk_at dksX8_giveAll_1 20 rfl rfl)
theorem dX8_giveAll_45 : decode cX8_giveAll 45 = .ok (.putfield 54, 3) := dk_181 0 54 (dk_at dksX8_giveAll_1 21 rfl rfl)
theorem dX8_giveAll_48 : decode cX8_giveAll 48 = .ok (.aload_n 1, 1) := dk_43 (dk_at dksX8_giveAll_2 0 rfl rfl)
theorem dX8_giveAll_49 : decode cX8_giveAll 49 = .ok (.aastore, 1) := dk_83 (dk_at dksX8_giveAll_2 1 rfl rfl)
theorem dX8_giveAll_50 : decode cX8_giveAll 50 = .ok (.return_, 1) := dk_177 (dk_at dksX8_giveAll_2 2 rfl rfl)
abbrev cX8_fetch : ByteArray := prog_4_method_5_code
def yX8_fetch : MethodName := ⟨RX8, "fetch", "(I)LNandHouse$Knot;"⟩
def dkwX8_fetch_1 : List UInt8 := [181, 0, 54, 1, 83, 44, 27, 182, 0, 57, 44, 176]
abbrev dktX8_fetch_1 : List UInt8 := dkwX8_fetch_1 ++ []
def dkwX8_fetch_0 : List UInt8 := [42, 180, 0, 13, 42, 180, 0, 54, 50, 77, 42, 180, 0, 13, 42, 89, 180, 0, 54, 90, 4, 96]
abbrev dktX8_fetch_0 : List UInt8 := dkwX8_fetch_0 ++ dktX8_fetch_1
theorem dksX8_fetch_0 : cX8_fetch.data.toList.drop 0 = dktX8_fetch_0 := by decide +kernel
theorem dksX8_fetch_1 : cX8_fetch.data.toList.drop 22 = dktX8_fetch_1 := dk_seg dksX8_fetch_0 22 rfl rfl
theorem dX8_fetch_0 : decode cX8_fetch 0 = .ok (.aload_n 0, 1) := dk_42 (dk_at dksX8_fetch_0 0 rfl rfl)
theorem dX8_fetch_1 : decode cX8_fetch 1 = .ok (.getfield 13, 3) := dk_180 0 13 (dk_at dksX8_fetch_0 1 rfl rfl)
theorem dX8_fetch_4 : decode cX8_fetch 4 = .ok (.aload_n 0, 1) := dk_42 (dk_at dksX8_fetch_0 4 rfl rfl)
theorem dX8_fetch_5 : decode cX8_fetch 5 = .ok (.getfield 54, 3) := dk_180 0 54 (dk_at dksX8_fetch_0 5 rfl rfl)
theorem dX8_fetch_8 : decode cX8_fetch 8 = .ok (.aaload, 1) := dk_50 (dk_at dksX8_fetch_0 8 rfl rfl)
theorem dX8_fetch_9 : decode cX8_fetch 9 = .ok (.astore_n 2, 1) := dk_77 (dk_at dksX8_fetch_0 9 rfl rfl)
theorem dX8_fetch_10 : decode cX8_fetch 10 = .ok (.aload_n 0, 1) := dk_42 (dk_at dksX8_fetch_0 10 rfl rfl)
theorem dX8_fetch_11 : decode cX8_fetch 11 = .ok (.getfield 13, 3) := dk_180 0 13 (dk_at dksX8_fetch_0 11 rfl rfl)
theorem dX8_fetch_14 : decode cX8_fetch 14 = .ok (.aload_n 0, 1) := dk_42 (dk_at dksX8_fetch_0 14 rfl rfl)
theorem dX8_fetch_15 : decode cX8_fetch 15 = .ok (.dup, 1) := dk_89 (dk_at dksX8_fetch_0 15 rfl rfl)
theorem dX8_fetch_16 : decode cX8_fetch 16 = .ok (.getfield 54, 3) := dk_180 0 54 (dk_at dksX8_fetch_0 16 rfl rfl)
theorem dX8_fetch_19 : decode cX8_fetch 19 = .ok (.dup_x1, 1) := dk_90 (dk_at dksX8_fetch_0 19 rfl rfl)
theorem dX8_fetch_20 : decode cX8_fetch 20 = .ok (.iconst 1, 1) := dk_4 (dk_at dksX8_fetch_0 20 rfl rfl)
theorem dX8_fetch_21 : decode cX8_fetch 21 = .ok (.iadd, 1) := dk_96 (dk_at dksX8_fetch_0 21 rfl rfl)
theorem dX8_fetch_22 : decode cX8_fetch 22 = .ok (.putfield 54, 3) := dk_181 0 54 (dk_at dksX8_fetch_1 0 rfl rfl)
theorem dX8_fetch_25 : decode cX8_fetch 25 = .ok (.aconst_null, 1) := dk_1 (dk_at dksX8_fetch_1 3 rfl rfl)
theorem dX8_fetch_26 : decode cX8_fetch 26 = .ok (.aastore, 1) := dk_83 (dk_at dksX8_fetch_1 4 rfl rfl)
theorem dX8_fetch_27 : decode cX8_fetch 27 = .ok (.aload_n 2, 1) := dk_44 (dk_at dksX8_fetch_1 5 rfl rfl)
theorem dX8_fetch_28 : decode cX8_fetch 28 = .ok (.iload_n 1, 1) := dk_27 (dk_at dksX8_fetch_1 6 rfl rfl)
theorem dX8_fetch_29 : decode cX8_fetch 29 = .ok (.invokevirtual 57, 3) := dk_182 0 57 (dk_at dksX8_fetch_1 7 rfl rfl)
theorem dX8_fetch_32 : decode cX8_fetch 32 = .ok (.aload_n 2, 1) := dk_44 (dk_at dksX8_fetch_1 10 rfl rfl)
theorem dX8_fetch_33 : decode cX8_fetch 33 = .ok (.areturn, 1) := dk_176 (dk_at dksX8_fetch_1 11 rfl rfl)
abbrev cX8_put : ByteArray := prog_4_method_12_code
def yX8_put : MethodName := ⟨RX8, "put", "(JJIII)V"⟩
def dkwX8_put_5 : List UInt8 := [21, 5, 92, 46, 21, 7, 96, 79, 177]
abbrev dktX8_put_5 : List UInt8 := dkwX8_put_5 ++ []
def dkwX8_put_4 : List UInt8 := [21, 6, 79, 42, 180, 0, 96, 180, 0, 117, 42, 180, 0, 99, 21, 7, 79, 42, 180, 0, 24, 180, 0, 74]
abbrev dktX8_put_4 : List UInt8 := dkwX8_put_4 ++ dktX8_put_5
def dkwX8_put_3 : List UInt8 := [180, 0, 96, 180, 0, 107, 42, 180, 0, 99, 21, 5, 79, 42, 180, 0, 96, 180, 0, 112, 42, 180, 0, 99]
abbrev dktX8_put_3 : List UInt8 := dkwX8_put_3 ++ dktX8_put_4
def dkwX8_put_2 : List UInt8 := [182, 0, 135, 58, 9, 25, 9, 198, 0, 9, 42, 25, 9, 182, 0, 139, 42, 31, 33, 182, 0, 128, 87, 42]
abbrev dktX8_put_2 : List UInt8 := dkwX8_put_2 ++ dktX8_put_3
def dkwX8_put_1 : List UInt8 := [92, 46, 42, 180, 0, 120, 100, 79, 42, 31, 33, 182, 0, 131, 167, 0, 33, 42, 42, 180, 0, 29, 31, 33]
abbrev dktX8_put_1 : List UInt8 := dkwX8_put_1 ++ dktX8_put_2
def dkwX8_put_0 : List UInt8 := [42, 31, 33, 182, 0, 128, 54, 8, 21, 8, 153, 0, 31, 42, 180, 0, 24, 180, 0, 74, 42, 180, 0, 110]
abbrev dktX8_put_0 : List UInt8 := dkwX8_put_0 ++ dktX8_put_1
theorem dksX8_put_0 : cX8_put.data.toList.drop 0 = dktX8_put_0 := by decide +kernel
theorem dksX8_put_1 : cX8_put.data.toList.drop 24 = dktX8_put_1 := dk_seg dksX8_put_0 24 rfl rfl
theorem dksX8_put_2 : cX8_put.data.toList.drop 48 = dktX8_put_2 := dk_seg dksX8_put_1 24 rfl rfl
theorem dksX8_put_3 : cX8_put.data.toList.drop 72 = dktX8_put_3 := dk_seg dksX8_put_2 24 rfl rfl
theorem dksX8_put_4 : cX8_put.data.toList.drop 96 = dktX8_put_4 := dk_seg dksX8_put_3 24 rfl rfl
theorem dksX8_put_5 : cX8_put.data.toList.drop 120 = dktX8_put_5 := dk_seg dksX8_put_4 24 rfl rfl
theorem dX8_put_0 : decode cX8_put 0 = .ok (.aload_n 0, 1) := dk_42 (dk_at dksX8_put_0 0 rfl rfl)
theorem dX8_put_1 : decode cX8_put 1 = .ok (.lload_n 1, 1) := dk_31 (dk_at dksX8_put_0 1 rfl rfl)
theorem dX8_put_2 : decode cX8_put 2 = .ok (.lload_n 3, 1) := dk_33 (dk_at dksX8_put_0 2 rfl rfl)
theorem dX8_put_3 : decode cX8_put 3 = .ok (.invokevirtual 128, 3) := dk_182 0 128 (dk_at dksX8_put_0 3 rfl rfl)
theorem dX8_put_6 : decode cX8_put 6 = .ok (.istore 8, 2) := dk_54 8 (dk_at dksX8_put_0 6 rfl rfl)
theorem dX8_put_8 : decode cX8_put 8 = .ok (.iload 8, 2) := dk_21 8 (dk_at dksX8_put_0 8 rfl rfl)
theorem dX8_put_10 : decode cX8_put 10 = .ok (.ifCond .eq 31, 3) := dk_153 0 31 (dk_at dksX8_put_0 10 rfl rfl)
theorem dX8_put_13 : decode cX8_put 13 = .ok (.aload_n 0, 1) := dk_42 (dk_at dksX8_put_0 13 rfl rfl)
theorem dX8_put_14 : decode cX8_put 14 = .ok (.getfield 24, 3) := dk_180 0 24 (dk_at dksX8_put_0 14 rfl rfl)
theorem dX8_put_17 : decode cX8_put 17 = .ok (.getfield 74, 3) := dk_180 0 74 (dk_at dksX8_put_0 17 rfl rfl)
theorem dX8_put_20 : decode cX8_put 20 = .ok (.aload_n 0, 1) := dk_42 (dk_at dksX8_put_0 20 rfl rfl)
theorem dX8_put_21 : decode cX8_put 21 = .ok (.getfield 110, 3) := dk_180 0 110 (dk_at dksX8_put_0 21 rfl rfl)
theorem dX8_put_24 : decode cX8_put 24 = .ok (.dup2, 1) := dk_92 (dk_at dksX8_put_1 0 rfl rfl)
theorem dX8_put_25 : decode cX8_put 25 = .ok (.iaload, 1) := dk_46 (dk_at dksX8_put_1 1 rfl rfl)
theorem dX8_put_26 : decode cX8_put 26 = .ok (.aload_n 0, 1) := dk_42 (dk_at dksX8_put_1 2 rfl rfl)
theorem dX8_put_27 : decode cX8_put 27 = .ok (.getfield 120, 3) := dk_180 0 120 (dk_at dksX8_put_1 3 rfl rfl)
theorem dX8_put_30 : decode cX8_put 30 = .ok (.isub, 1) := dk_100 (dk_at dksX8_put_1 6 rfl rfl)
theorem dX8_put_31 : decode cX8_put 31 = .ok (.iastore, 1) := dk_79 (dk_at dksX8_put_1 7 rfl rfl)
theorem dX8_put_32 : decode cX8_put 32 = .ok (.aload_n 0, 1) := dk_42 (dk_at dksX8_put_1 8 rfl rfl)
theorem dX8_put_33 : decode cX8_put 33 = .ok (.lload_n 1, 1) := dk_31 (dk_at dksX8_put_1 9 rfl rfl)
theorem dX8_put_34 : decode cX8_put 34 = .ok (.lload_n 3, 1) := dk_33 (dk_at dksX8_put_1 10 rfl rfl)
theorem dX8_put_35 : decode cX8_put 35 = .ok (.invokevirtual 131, 3) := dk_182 0 131 (dk_at dksX8_put_1 11 rfl rfl)
theorem dX8_put_38 : decode cX8_put 38 = .ok (.goto 33, 3) := dk_167 0 33 (dk_at dksX8_put_1 14 rfl rfl)
theorem dX8_put_41 : decode cX8_put 41 = .ok (.aload_n 0, 1) := dk_42 (dk_at dksX8_put_1 17 rfl rfl)
theorem dX8_put_42 : decode cX8_put 42 = .ok (.aload_n 0, 1) := dk_42 (dk_at dksX8_put_1 18 rfl rfl)
theorem dX8_put_43 : decode cX8_put 43 = .ok (.getfield 29, 3) := dk_180 0 29 (dk_at dksX8_put_1 19 rfl rfl)
theorem dX8_put_46 : decode cX8_put 46 = .ok (.lload_n 1, 1) := dk_31 (dk_at dksX8_put_1 22 rfl rfl)
theorem dX8_put_47 : decode cX8_put 47 = .ok (.lload_n 3, 1) := dk_33 (dk_at dksX8_put_1 23 rfl rfl)
theorem dX8_put_48 : decode cX8_put 48 = .ok (.invokevirtual 135, 3) := dk_182 0 135 (dk_at dksX8_put_2 0 rfl rfl)
theorem dX8_put_51 : decode cX8_put 51 = .ok (.astore 9, 2) := dk_58 9 (dk_at dksX8_put_2 3 rfl rfl)
theorem dX8_put_53 : decode cX8_put 53 = .ok (.aload 9, 2) := dk_25 9 (dk_at dksX8_put_2 5 rfl rfl)
theorem dX8_put_55 : decode cX8_put 55 = .ok (.ifnull 9, 3) := dk_198 0 9 (dk_at dksX8_put_2 7 rfl rfl)
theorem dX8_put_58 : decode cX8_put 58 = .ok (.aload_n 0, 1) := dk_42 (dk_at dksX8_put_2 10 rfl rfl)
theorem dX8_put_59 : decode cX8_put 59 = .ok (.aload 9, 2) := dk_25 9 (dk_at dksX8_put_2 11 rfl rfl)
theorem dX8_put_61 : decode cX8_put 61 = .ok (.invokevirtual 139, 3) := dk_182 0 139 (dk_at dksX8_put_2 13 rfl rfl)
theorem dX8_put_64 : decode cX8_put 64 = .ok (.aload_n 0, 1) := dk_42 (dk_at dksX8_put_2 16 rfl rfl)
theorem dX8_put_65 : decode cX8_put 65 = .ok (.lload_n 1, 1) := dk_31 (dk_at dksX8_put_2 17 rfl rfl)
theorem dX8_put_66 : decode cX8_put 66 = .ok (.lload_n 3, 1) := dk_33 (dk_at dksX8_put_2 18 rfl rfl)
theorem dX8_put_67 : decode cX8_put 67 = .ok (.invokevirtual 128, 3) := dk_182 0 128 (dk_at dksX8_put_2 19 rfl rfl)
theorem dX8_put_70 : decode cX8_put 70 = .ok (.pop, 1) := dk_87 (dk_at dksX8_put_2 22 rfl rfl)
theorem dX8_put_71 : decode cX8_put 71 = .ok (.aload_n 0, 1) := dk_42 (dk_at dksX8_put_2 23 rfl rfl)
theorem dX8_put_72 : decode cX8_put 72 = .ok (.getfield 96, 3) := dk_180 0 96 (dk_at dksX8_put_3 0 rfl rfl)
theorem dX8_put_75 : decode cX8_put 75 = .ok (.getfield 107, 3) := dk_180 0 107 (dk_at dksX8_put_3 3 rfl rfl)
theorem dX8_put_78 : decode cX8_put 78 = .ok (.aload_n 0, 1) := dk_42 (dk_at dksX8_put_3 6 rfl rfl)
theorem dX8_put_79 : decode cX8_put 79 = .ok (.getfield 99, 3) := dk_180 0 99 (dk_at dksX8_put_3 7 rfl rfl)
theorem dX8_put_82 : decode cX8_put 82 = .ok (.iload 5, 2) := dk_21 5 (dk_at dksX8_put_3 10 rfl rfl)
theorem dX8_put_84 : decode cX8_put 84 = .ok (.iastore, 1) := dk_79 (dk_at dksX8_put_3 12 rfl rfl)
theorem dX8_put_85 : decode cX8_put 85 = .ok (.aload_n 0, 1) := dk_42 (dk_at dksX8_put_3 13 rfl rfl)
theorem dX8_put_86 : decode cX8_put 86 = .ok (.getfield 96, 3) := dk_180 0 96 (dk_at dksX8_put_3 14 rfl rfl)
theorem dX8_put_89 : decode cX8_put 89 = .ok (.getfield 112, 3) := dk_180 0 112 (dk_at dksX8_put_3 17 rfl rfl)
theorem dX8_put_92 : decode cX8_put 92 = .ok (.aload_n 0, 1) := dk_42 (dk_at dksX8_put_3 20 rfl rfl)
theorem dX8_put_93 : decode cX8_put 93 = .ok (.getfield 99, 3) := dk_180 0 99 (dk_at dksX8_put_3 21 rfl rfl)
theorem dX8_put_96 : decode cX8_put 96 = .ok (.iload 6, 2) := dk_21 6 (dk_at dksX8_put_4 0 rfl rfl)
theorem dX8_put_98 : decode cX8_put 98 = .ok (.iastore, 1) := dk_79 (dk_at dksX8_put_4 2 rfl rfl)
theorem dX8_put_99 : decode cX8_put 99 = .ok (.aload_n 0, 1) := dk_42 (dk_at dksX8_put_4 3 rfl rfl)
theorem dX8_put_100 : decode cX8_put 100 = .ok (.getfield 96, 3) := dk_180 0 96 (dk_at dksX8_put_4 4 rfl rfl)
theorem dX8_put_103 : decode cX8_put 103 = .ok (.getfield 117, 3) := dk_180 0 117 (dk_at dksX8_put_4 7 rfl rfl)
theorem dX8_put_106 : decode cX8_put 106 = .ok (.aload_n 0, 1) := dk_42 (dk_at dksX8_put_4 10 rfl rfl)
theorem dX8_put_107 : decode cX8_put 107 = .ok (.getfield 99, 3) := dk_180 0 99 (dk_at dksX8_put_4 11 rfl rfl)
theorem dX8_put_110 : decode cX8_put 110 = .ok (.iload 7, 2) := dk_21 7 (dk_at dksX8_put_4 14 rfl rfl)
theorem dX8_put_112 : decode cX8_put 112 = .ok (.iastore, 1) := dk_79 (dk_at dksX8_put_4 16 rfl rfl)
theorem dX8_put_113 : decode cX8_put 113 = .ok (.aload_n 0, 1) := dk_42 (dk_at dksX8_put_4 17 rfl rfl)
theorem dX8_put_114 : decode cX8_put 114 = .ok (.getfield 24, 3) := dk_180 0 24 (dk_at dksX8_put_4 18 rfl rfl)
theorem dX8_put_117 : decode cX8_put 117 = .ok (.getfield 74, 3) := dk_180 0 74 (dk_at dksX8_put_4 21 rfl rfl)
theorem dX8_put_120 : decode cX8_put 120 = .ok (.iload 5, 2) := dk_21 5 (dk_at dksX8_put_5 0 rfl rfl)
theorem dX8_put_122 : decode cX8_put 122 = .ok (.dup2, 1) := dk_92 (dk_at dksX8_put_5 2 rfl rfl)
theorem dX8_put_123 : decode cX8_put 123 = .ok (.iaload, 1) := dk_46 (dk_at dksX8_put_5 3 rfl rfl)
theorem dX8_put_124 : decode cX8_put 124 = .ok (.iload 7, 2) := dk_21 7 (dk_at dksX8_put_5 4 rfl rfl)
theorem dX8_put_126 : decode cX8_put 126 = .ok (.iadd, 1) := dk_96 (dk_at dksX8_put_5 6 rfl rfl)
theorem dX8_put_127 : decode cX8_put 127 = .ok (.iastore, 1) := dk_79 (dk_at dksX8_put_5 7 rfl rfl)
theorem dX8_put_128 : decode cX8_put 128 = .ok (.return_, 1) := dk_177 (dk_at dksX8_put_5 8 rfl rfl)
abbrev cX8_find : ByteArray := prog_4_method_10_code
def yX8_find : MethodName := ⟨RX8, "find", "(JJ)Z"⟩
def dkwX8_find_1 : List UInt8 := [154, 0, 7, 4, 167, 0, 4, 3, 172]
abbrev dktX8_find_1 : List UInt8 := dkwX8_find_1 ++ []
def dkwX8_find_0 : List UInt8 := [42, 31, 33, 182, 0, 122, 153, 0, 25, 42, 180, 0, 102, 31, 148, 154, 0, 16, 42, 180, 0, 105, 33, 148]
abbrev dktX8_find_0 : List UInt8 := dkwX8_find_0 ++ dktX8_find_1
theorem dksX8_find_0 : cX8_find.data.toList.drop 0 = dktX8_find_0 := by decide +kernel
theorem dksX8_find_1 : cX8_find.data.toList.drop 24 = dktX8_find_1 := dk_seg dksX8_find_0 24 rfl rfl
theorem dX8_find_0 : decode cX8_find 0 = .ok (.aload_n 0, 1) := dk_42 (dk_at dksX8_find_0 0 rfl rfl)
theorem dX8_find_1 : decode cX8_find 1 = .ok (.lload_n 1, 1) := dk_31 (dk_at dksX8_find_0 1 rfl rfl)
theorem dX8_find_2 : decode cX8_find 2 = .ok (.lload_n 3, 1) := dk_33 (dk_at dksX8_find_0 2 rfl rfl)
theorem dX8_find_3 : decode cX8_find 3 = .ok (.invokevirtual 122, 3) := dk_182 0 122 (dk_at dksX8_find_0 3 rfl rfl)
theorem dX8_find_6 : decode cX8_find 6 = .ok (.ifCond .eq 25, 3) := dk_153 0 25 (dk_at dksX8_find_0 6 rfl rfl)
theorem dX8_find_9 : decode cX8_find 9 = .ok (.aload_n 0, 1) := dk_42 (dk_at dksX8_find_0 9 rfl rfl)
theorem dX8_find_10 : decode cX8_find 10 = .ok (.getfield 102, 3) := dk_180 0 102 (dk_at dksX8_find_0 10 rfl rfl)
theorem dX8_find_13 : decode cX8_find 13 = .ok (.lload_n 1, 1) := dk_31 (dk_at dksX8_find_0 13 rfl rfl)
theorem dX8_find_14 : decode cX8_find 14 = .ok (.lcmp, 1) := dk_148 (dk_at dksX8_find_0 14 rfl rfl)
theorem dX8_find_15 : decode cX8_find 15 = .ok (.ifCond .ne 16, 3) := dk_154 0 16 (dk_at dksX8_find_0 15 rfl rfl)
theorem dX8_find_18 : decode cX8_find 18 = .ok (.aload_n 0, 1) := dk_42 (dk_at dksX8_find_0 18 rfl rfl)
theorem dX8_find_19 : decode cX8_find 19 = .ok (.getfield 105, 3) := dk_180 0 105 (dk_at dksX8_find_0 19 rfl rfl)
theorem dX8_find_22 : decode cX8_find 22 = .ok (.lload_n 3, 1) := dk_33 (dk_at dksX8_find_0 22 rfl rfl)
theorem dX8_find_23 : decode cX8_find 23 = .ok (.lcmp, 1) := dk_148 (dk_at dksX8_find_0 23 rfl rfl)
theorem dX8_find_24 : decode cX8_find 24 = .ok (.ifCond .ne 7, 3) := dk_154 0 7 (dk_at dksX8_find_1 0 rfl rfl)
theorem dX8_find_27 : decode cX8_find 27 = .ok (.iconst 1, 1) := dk_4 (dk_at dksX8_find_1 3 rfl rfl)
theorem dX8_find_28 : decode cX8_find 28 = .ok (.goto 4, 3) := dk_167 0 4 (dk_at dksX8_find_1 4 rfl rfl)
theorem dX8_find_31 : decode cX8_find 31 = .ok (.iconst 0, 1) := dk_3 (dk_at dksX8_find_1 7 rfl rfl)
theorem dX8_find_32 : decode cX8_find 32 = .ok (.ireturn, 1) := dk_172 (dk_at dksX8_find_1 8 rfl rfl)
abbrev cX8_seek : ByteArray := prog_4_method_9_code
def yX8_seek : MethodName := ⟨RX8, "seek", "(JJ)Z"⟩
def dkwX8_seek_9 : List UInt8 := [21, 7, 46, 181, 0, 115, 42, 25, 5, 180, 0, 117, 21, 7, 46, 181, 0, 120, 4, 172]
abbrev dktX8_seek_9 : List UInt8 := dkwX8_seek_9 ++ []
def dkwX8_seek_8 : List UInt8 := [21, 7, 47, 181, 0, 105, 42, 25, 5, 180, 0, 107, 21, 7, 46, 181, 0, 110, 42, 25, 5, 180, 0, 112]
abbrev dktX8_seek_8 : List UInt8 := dkwX8_seek_8 ++ dktX8_seek_9
def dkwX8_seek_7 : List UInt8 := [42, 21, 7, 181, 0, 99, 42, 25, 5, 180, 0, 89, 21, 7, 47, 181, 0, 102, 42, 25, 5, 180, 0, 93]
abbrev dktX8_seek_7 : List UInt8 := dkwX8_seek_7 ++ dktX8_seek_8
def dkwX8_seek_6 : List UInt8 := [158, 0, 15, 25, 5, 180, 0, 51, 3, 50, 58, 5, 167, 255, 239, 3, 54, 7, 42, 25, 5, 181, 0, 96]
abbrev dktX8_seek_6 : List UInt8 := dkwX8_seek_6 ++ dktX8_seek_7
def dkwX8_seek_5 : List UInt8 := [180, 0, 45, 160, 0, 37, 25, 6, 199, 0, 5, 3, 172, 25, 6, 58, 5, 25, 5, 180, 0, 48]
abbrev dktX8_seek_5 : List UInt8 := dkwX8_seek_5 ++ dktX8_seek_6
def dkwX8_seek_4 : List UInt8 := [154, 0, 16, 25, 5, 180, 0, 93, 21, 7, 47, 33, 148, 153, 0, 6, 132, 7, 1, 21, 7, 25, 5]
abbrev dktX8_seek_4 : List UInt8 := dkwX8_seek_4 ++ dktX8_seek_5
def dkwX8_seek_3 : List UInt8 := [25, 5, 31, 33, 182, 0, 79, 54, 7, 21, 7, 155, 0, 29, 25, 5, 180, 0, 89, 21, 7, 47, 31, 148]
abbrev dktX8_seek_3 : List UInt8 := dkwX8_seek_3 ++ dktX8_seek_4
def dkwX8_seek_2 : List UInt8 := [180, 0, 51, 21, 7, 4, 96, 50, 58, 6, 25, 5, 180, 0, 51, 21, 7, 50, 58, 5, 167, 255, 201]
abbrev dktX8_seek_2 : List UInt8 := dkwX8_seek_2 ++ dktX8_seek_3
def dkwX8_seek_1 : List UInt8 := [182, 0, 79, 184, 0, 83, 54, 7, 21, 7, 4, 96, 25, 5, 180, 0, 45, 162, 0, 15, 25, 5]
abbrev dktX8_seek_1 : List UInt8 := dkwX8_seek_1 ++ dktX8_seek_2
def dkwX8_seek_0 : List UInt8 := [42, 180, 0, 29, 58, 5, 1, 58, 6, 25, 5, 180, 0, 48, 158, 0, 53, 3, 25, 5, 31, 33]
abbrev dktX8_seek_0 : List UInt8 := dkwX8_seek_0 ++ dktX8_seek_1
theorem dksX8_seek_0 : cX8_seek.data.toList.drop 0 = dktX8_seek_0 := by decide +kernel
theorem dksX8_seek_1 : cX8_seek.data.toList.drop 22 = dktX8_seek_1 := dk_seg dksX8_seek_0 22 rfl rfl
theorem dksX8_seek_2 : cX8_seek.data.toList.drop 44 = dktX8_seek_2 := dk_seg dksX8_seek_1 22 rfl rfl
theorem dksX8_seek_3 : cX8_seek.data.toList.drop 67 = dktX8_seek_3 := dk_seg dksX8_seek_2 23 rfl rfl
theorem dksX8_seek_4 : cX8_seek.data.toList.drop 91 = dktX8_seek_4 := dk_seg dksX8_seek_3 24 rfl rfl
theorem dksX8_seek_5 : cX8_seek.data.toList.drop 114 = dktX8_seek_5 := dk_seg dksX8_seek_4 23 rfl rfl
theorem dksX8_seek_6 : cX8_seek.data.toList.drop 136 = dktX8_seek_6 := dk_seg dksX8_seek_5 22 rfl rfl
theorem dksX8_seek_7 : cX8_seek.data.toList.drop 160 = dktX8_seek_7 := dk_seg dksX8_seek_6 24 rfl rfl
theorem dksX8_seek_8 : cX8_seek.data.toList.drop 184 = dktX8_seek_8 := dk_seg dksX8_seek_7 24 rfl rfl
theorem dksX8_seek_9 : cX8_seek.data.toList.drop 208 = dktX8_seek_9 := dk_seg dksX8_seek_8 24 rfl rfl
theorem dX8_seek_0 : decode cX8_seek 0 = .ok (.aload_n 0, 1) := dk_42 (dk_at dksX8_seek_0 0 rfl rfl)
theorem dX8_seek_1 : decode cX8_seek 1 = .ok (.getfield 29, 3) := dk_180 0 29 (dk_at dksX8_seek_0 1 rfl rfl)
theorem dX8_seek_4 : decode cX8_seek 4 = .ok (.astore 5, 2) := dk_58 5 (dk_at dksX8_seek_0 4 rfl rfl)
theorem dX8_seek_6 : decode cX8_seek 6 = .ok (.aconst_null, 1) := dk_1 (dk_at dksX8_seek_0 6 rfl rfl)
theorem dX8_seek_7 : decode cX8_seek 7 = .ok (.astore 6, 2) := dk_58 6 (dk_at dksX8_seek_0 7 rfl rfl)
theorem dX8_seek_9 : decode cX8_seek 9 = .ok (.aload 5, 2) := dk_25 5 (dk_at dksX8_seek_0 9 rfl rfl)
theorem dX8_seek_11 : decode cX8_seek 11 = .ok (.getfield 48, 3) := dk_180 0 48 (dk_at dksX8_seek_0 11 rfl rfl)
theorem dX8_seek_14 : decode cX8_seek 14 = .ok (.ifCond .le 53, 3) := dk_158 0 53 (dk_at dksX8_seek_0 14 rfl rfl)
theorem dX8_seek_17 : decode cX8_seek 17 = .ok (.iconst 0, 1) := dk_3 (dk_at dksX8_seek_0 17 rfl rfl)
theorem dX8_seek_18 : decode cX8_seek 18 = .ok (.aload 5, 2) := dk_25 5 (dk_at dksX8_seek_0 18 rfl rfl)
theorem dX8_seek_20 : decode cX8_seek 20 = .ok (.lload_n 1, 1) := dk_31 (dk_at dksX8_seek_0 20 rfl rfl)
theorem dX8_seek_21 : decode cX8_seek 21 = .ok (.lload_n 3, 1) := dk_33 (dk_at dksX8_seek_0 21 rfl rfl)
theorem dX8_seek_22 : decode cX8_seek 22 = .ok (.invokevirtual 79, 3) := dk_182 0 79 (dk_at dksX8_seek_1 0 rfl rfl)
theorem dX8_seek_25 : decode cX8_seek 25 = .ok (.invokestatic 83, 3) := dk_184 0 83 (dk_at dksX8_seek_1 3 rfl rfl)
theorem dX8_seek_28 : decode cX8_seek 28 = .ok (.istore 7, 2) := dk_54 7 (dk_at dksX8_seek_1 6 rfl rfl)
theorem dX8_seek_30 : decode cX8_seek 30 = .ok (.iload 7, 2) := dk_21 7 (dk_at dksX8_seek_1 8 rfl rfl)
theorem dX8_seek_32 : decode cX8_seek 32 = .ok (.iconst 1, 1) := dk_4 (dk_at dksX8_seek_1 10 rfl rfl)
theorem dX8_seek_33 : decode cX8_seek 33 = .ok (.iadd, 1) := dk_96 (dk_at dksX8_seek_1 11 rfl rfl)
theorem dX8_seek_34 : decode cX8_seek 34 = .ok (.aload 5, 2) := dk_25 5 (dk_at dksX8_seek_1 12 rfl rfl)
theorem dX8_seek_36 : decode cX8_seek 36 = .ok (.getfield 45, 3) := dk_180 0 45 (dk_at dksX8_seek_1 14 rfl rfl)
theorem dX8_seek_39 : decode cX8_seek 39 = .ok (.if_icmp .ge 15, 3) := dk_162 0 15 (dk_at dksX8_seek_1 17 rfl rfl)
theorem dX8_seek_42 : decode cX8_seek 42 = .ok (.aload 5, 2) := dk_25 5 (dk_at dksX8_seek_1 20 rfl rfl)
theorem dX8_seek_44 : decode cX8_seek 44 = .ok (.getfield 51, 3) := dk_180 0 51 (dk_at dksX8_seek_2 0 rfl rfl)
theorem dX8_seek_47 : decode cX8_seek 47 = .ok (.iload 7, 2) := dk_21 7 (dk_at dksX8_seek_2 3 rfl rfl)
theorem dX8_seek_49 : decode cX8_seek 49 = .ok (.iconst 1, 1) := dk_4 (dk_at dksX8_seek_2 5 rfl rfl)
theorem dX8_seek_50 : decode cX8_seek 50 = .ok (.iadd, 1) := dk_96 (dk_at dksX8_seek_2 6 rfl rfl)
theorem dX8_seek_51 : decode cX8_seek 51 = .ok (.aaload, 1) := dk_50 (dk_at dksX8_seek_2 7 rfl rfl)
theorem dX8_seek_52 : decode cX8_seek 52 = .ok (.astore 6, 2) := dk_58 6 (dk_at dksX8_seek_2 8 rfl rfl)
theorem dX8_seek_54 : decode cX8_seek 54 = .ok (.aload 5, 2) := dk_25 5 (dk_at dksX8_seek_2 10 rfl rfl)
theorem dX8_seek_56 : decode cX8_seek 56 = .ok (.getfield 51, 3) := dk_180 0 51 (dk_at dksX8_seek_2 12 rfl rfl)
theorem dX8_seek_59 : decode cX8_seek 59 = .ok (.iload 7, 2) := dk_21 7 (dk_at dksX8_seek_2 15 rfl rfl)
theorem dX8_seek_61 : decode cX8_seek 61 = .ok (.aaload, 1) := dk_50 (dk_at dksX8_seek_2 17 rfl rfl)
theorem dX8_seek_62 : decode cX8_seek 62 = .ok (.astore 5, 2) := dk_58 5 (dk_at dksX8_seek_2 18 rfl rfl)
theorem dX8_seek_64 : decode cX8_seek 64 = .ok (.goto (-55), 3) := dk_167 255 201 (dk_at dksX8_seek_2 20 rfl rfl)
theorem dX8_seek_67 : decode cX8_seek 67 = .ok (.aload 5, 2) := dk_25 5 (dk_at dksX8_seek_3 0 rfl rfl)
theorem dX8_seek_69 : decode cX8_seek 69 = .ok (.lload_n 1, 1) := dk_31 (dk_at dksX8_seek_3 2 rfl rfl)
theorem dX8_seek_70 : decode cX8_seek 70 = .ok (.lload_n 3, 1) := dk_33 (dk_at dksX8_seek_3 3 rfl rfl)
theorem dX8_seek_71 : decode cX8_seek 71 = .ok (.invokevirtual 79, 3) := dk_182 0 79 (dk_at dksX8_seek_3 4 rfl rfl)
theorem dX8_seek_74 : decode cX8_seek 74 = .ok (.istore 7, 2) := dk_54 7 (dk_at dksX8_seek_3 7 rfl rfl)
theorem dX8_seek_76 : decode cX8_seek 76 = .ok (.iload 7, 2) := dk_21 7 (dk_at dksX8_seek_3 9 rfl rfl)
theorem dX8_seek_78 : decode cX8_seek 78 = .ok (.ifCond .lt 29, 3) := dk_155 0 29 (dk_at dksX8_seek_3 11 rfl rfl)
theorem dX8_seek_81 : decode cX8_seek 81 = .ok (.aload 5, 2) := dk_25 5 (dk_at dksX8_seek_3 14 rfl rfl)
theorem dX8_seek_83 : decode cX8_seek 83 = .ok (.getfield 89, 3) := dk_180 0 89 (dk_at dksX8_seek_3 16 rfl rfl)
theorem dX8_seek_86 : decode cX8_seek 86 = .ok (.iload 7, 2) := dk_21 7 (dk_at dksX8_seek_3 19 rfl rfl)
theorem dX8_seek_88 : decode cX8_seek 88 = .ok (.laload, 1) := dk_47 (dk_at dksX8_seek_3 21 rfl rfl)
theorem dX8_seek_89 : decode cX8_seek 89 = .ok (.lload_n 1, 1) := dk_31 (dk_at dksX8_seek_3 22 rfl rfl)
theorem dX8_seek_90 : decode cX8_seek 90 = .ok (.lcmp, 1) := dk_148 (dk_at dksX8_seek_3 23 rfl rfl)
theorem dX8_seek_91 : decode cX8_seek 91 = .ok (.ifCond .ne 16, 3) := dk_154 0 16 (dk_at dksX8_seek_4 0 rfl rfl)
theorem dX8_seek_94 : decode cX8_seek 94 = .ok (.aload 5, 2) := dk_25 5 (dk_at dksX8_seek_4 3 rfl rfl)
theorem dX8_seek_96 : decode cX8_seek 96 = .ok (.getfield 93, 3) := dk_180 0 93 (dk_at dksX8_seek_4 5 rfl rfl)
theorem dX8_seek_99 : decode cX8_seek 99 = .ok (.iload 7, 2) := dk_21 7 (dk_at dksX8_seek_4 8 rfl rfl)
theorem dX8_seek_101 : decode cX8_seek 101 = .ok (.laload, 1) := dk_47 (dk_at dksX8_seek_4 10 rfl rfl)
theorem dX8_seek_102 : decode cX8_seek 102 = .ok (.lload_n 3, 1) := dk_33 (dk_at dksX8_seek_4 11 rfl rfl)
theorem dX8_seek_103 : decode cX8_seek 103 = .ok (.lcmp, 1) := dk_148 (dk_at dksX8_seek_4 12 rfl rfl)
theorem dX8_seek_104 : decode cX8_seek 104 = .ok (.ifCond .eq 6, 3) := dk_153 0 6 (dk_at dksX8_seek_4 13 rfl rfl)
theorem dX8_seek_107 : decode cX8_seek 107 = .ok (.iinc 7 1, 3) := dk_132 7 1 (dk_at dksX8_seek_4 16 rfl rfl)
theorem dX8_seek_110 : decode cX8_seek 110 = .ok (.iload 7, 2) := dk_21 7 (dk_at dksX8_seek_4 19 rfl rfl)
theorem dX8_seek_112 : decode cX8_seek 112 = .ok (.aload 5, 2) := dk_25 5 (dk_at dksX8_seek_4 21 rfl rfl)
theorem dX8_seek_114 : decode cX8_seek 114 = .ok (.getfield 45, 3) := dk_180 0 45 (dk_at dksX8_seek_5 0 rfl rfl)
theorem dX8_seek_117 : decode cX8_seek 117 = .ok (.if_icmp .ne 37, 3) := dk_160 0 37 (dk_at dksX8_seek_5 3 rfl rfl)
theorem dX8_seek_120 : decode cX8_seek 120 = .ok (.aload 6, 2) := dk_25 6 (dk_at dksX8_seek_5 6 rfl rfl)
theorem dX8_seek_122 : decode cX8_seek 122 = .ok (.ifnonnull 5, 3) := dk_199 0 5 (dk_at dksX8_seek_5 8 rfl rfl)
theorem dX8_seek_125 : decode cX8_seek 125 = .ok (.iconst 0, 1) := dk_3 (dk_at dksX8_seek_5 11 rfl rfl)
theorem dX8_seek_126 : decode cX8_seek 126 = .ok (.ireturn, 1) := dk_172 (dk_at dksX8_seek_5 12 rfl rfl)
theorem dX8_seek_127 : decode cX8_seek 127 = .ok (.aload 6, 2) := dk_25 6 (dk_at dksX8_seek_5 13 rfl rfl)
theorem dX8_seek_129 : decode cX8_seek 129 = .ok (.astore 5, 2) := dk_58 5 (dk_at dksX8_seek_5 15 rfl rfl)
theorem dX8_seek_131 : decode cX8_seek 131 = .ok (.aload 5, 2) := dk_25 5 (dk_at dksX8_seek_5 17 rfl rfl)
theorem dX8_seek_133 : decode cX8_seek 133 = .ok (.getfield 48, 3) := dk_180 0 48 (dk_at dksX8_seek_5 19 rfl rfl)
theorem dX8_seek_136 : decode cX8_seek 136 = .ok (.ifCond .le 15, 3) := dk_158 0 15 (dk_at dksX8_seek_6 0 rfl rfl)
theorem dX8_seek_139 : decode cX8_seek 139 = .ok (.aload 5, 2) := dk_25 5 (dk_at dksX8_seek_6 3 rfl rfl)
theorem dX8_seek_141 : decode cX8_seek 141 = .ok (.getfield 51, 3) := dk_180 0 51 (dk_at dksX8_seek_6 5 rfl rfl)
theorem dX8_seek_144 : decode cX8_seek 144 = .ok (.iconst 0, 1) := dk_3 (dk_at dksX8_seek_6 8 rfl rfl)
theorem dX8_seek_145 : decode cX8_seek 145 = .ok (.aaload, 1) := dk_50 (dk_at dksX8_seek_6 9 rfl rfl)
theorem dX8_seek_146 : decode cX8_seek 146 = .ok (.astore 5, 2) := dk_58 5 (dk_at dksX8_seek_6 10 rfl rfl)
theorem dX8_seek_148 : decode cX8_seek 148 = .ok (.goto (-17), 3) := dk_167 255 239 (dk_at dksX8_seek_6 12 rfl rfl)
theorem dX8_seek_151 : decode cX8_seek 151 = .ok (.iconst 0, 1) := dk_3 (dk_at dksX8_seek_6 15 rfl rfl)
theorem dX8_seek_152 : decode cX8_seek 152 = .ok (.istore 7, 2) := dk_54 7 (dk_at dksX8_seek_6 16 rfl rfl)
theorem dX8_seek_154 : decode cX8_seek 154 = .ok (.aload_n 0, 1) := dk_42 (dk_at dksX8_seek_6 18 rfl rfl)
theorem dX8_seek_155 : decode cX8_seek 155 = .ok (.aload 5, 2) := dk_25 5 (dk_at dksX8_seek_6 19 rfl rfl)
theorem dX8_seek_157 : decode cX8_seek 157 = .ok (.putfield 96, 3) := dk_181 0 96 (dk_at dksX8_seek_6 21 rfl rfl)
theorem dX8_seek_160 : decode cX8_seek 160 = .ok (.aload_n 0, 1) := dk_42 (dk_at dksX8_seek_7 0 rfl rfl)
theorem dX8_seek_161 : decode cX8_seek 161 = .ok (.iload 7, 2) := dk_21 7 (dk_at dksX8_seek_7 1 rfl rfl)
theorem dX8_seek_163 : decode cX8_seek 163 = .ok (.putfield 99, 3) := dk_181 0 99 (dk_at dksX8_seek_7 3 rfl rfl)
theorem dX8_seek_166 : decode cX8_seek 166 = .ok (.aload_n 0, 1) := dk_42 (dk_at dksX8_seek_7 6 rfl rfl)
theorem dX8_seek_167 : decode cX8_seek 167 = .ok (.aload 5, 2) := dk_25 5 (dk_at dksX8_seek_7 7 rfl rfl)
theorem dX8_seek_169 : decode cX8_seek 169 = .ok (.getfield 89, 3) := dk_180 0 89 (dk_at dksX8_seek_7 9 rfl rfl)
theorem dX8_seek_172 : decode cX8_seek 172 = .ok (.iload 7, 2) := dk_21 7 (dk_at dksX8_seek_7 12 rfl rfl)
theorem dX8_seek_174 : decode cX8_seek 174 = .ok (.laload, 1) := dk_47 (dk_at dksX8_seek_7 14 rfl rfl)
theorem dX8_seek_175 : decode cX8_seek 175 = .ok (.putfield 102, 3) := dk_181 0 102 (dk_at dksX8_seek_7 15 rfl rfl)
theorem dX8_seek_178 : decode cX8_seek 178 = .ok (.aload_n 0, 1) := dk_42 (dk_at dksX8_seek_7 18 rfl rfl)
theorem dX8_seek_179 : decode cX8_seek 179 = .ok (.aload 5, 2) := dk_25 5 (dk_at dksX8_seek_7 19 rfl rfl)
theorem dX8_seek_181 : decode cX8_seek 181 = .ok (.getfield 93, 3) := dk_180 0 93 (dk_at dksX8_seek_7 21 rfl rfl)
theorem dX8_seek_184 : decode cX8_seek 184 = .ok (.iload 7, 2) := dk_21 7 (dk_at dksX8_seek_8 0 rfl rfl)
theorem dX8_seek_186 : decode cX8_seek 186 = .ok (.laload, 1) := dk_47 (dk_at dksX8_seek_8 2 rfl rfl)
theorem dX8_seek_187 : decode cX8_seek 187 = .ok (.putfield 105, 3) := dk_181 0 105 (dk_at dksX8_seek_8 3 rfl rfl)
theorem dX8_seek_190 : decode cX8_seek 190 = .ok (.aload_n 0, 1) := dk_42 (dk_at dksX8_seek_8 6 rfl rfl)
theorem dX8_seek_191 : decode cX8_seek 191 = .ok (.aload 5, 2) := dk_25 5 (dk_at dksX8_seek_8 7 rfl rfl)
theorem dX8_seek_193 : decode cX8_seek 193 = .ok (.getfield 107, 3) := dk_180 0 107 (dk_at dksX8_seek_8 9 rfl rfl)
theorem dX8_seek_196 : decode cX8_seek 196 = .ok (.iload 7, 2) := dk_21 7 (dk_at dksX8_seek_8 12 rfl rfl)
theorem dX8_seek_198 : decode cX8_seek 198 = .ok (.iaload, 1) := dk_46 (dk_at dksX8_seek_8 14 rfl rfl)
theorem dX8_seek_199 : decode cX8_seek 199 = .ok (.putfield 110, 3) := dk_181 0 110 (dk_at dksX8_seek_8 15 rfl rfl)
theorem dX8_seek_202 : decode cX8_seek 202 = .ok (.aload_n 0, 1) := dk_42 (dk_at dksX8_seek_8 18 rfl rfl)
theorem dX8_seek_203 : decode cX8_seek 203 = .ok (.aload 5, 2) := dk_25 5 (dk_at dksX8_seek_8 19 rfl rfl)
theorem dX8_seek_205 : decode cX8_seek 205 = .ok (.getfield 112, 3) := dk_180 0 112 (dk_at dksX8_seek_8 21 rfl rfl)
theorem dX8_seek_208 : decode cX8_seek 208 = .ok (.iload 7, 2) := dk_21 7 (dk_at dksX8_seek_9 0 rfl rfl)
theorem dX8_seek_210 : decode cX8_seek 210 = .ok (.iaload, 1) := dk_46 (dk_at dksX8_seek_9 2 rfl rfl)
theorem dX8_seek_211 : decode cX8_seek 211 = .ok (.putfield 115, 3) := dk_181 0 115 (dk_at dksX8_seek_9 3 rfl rfl)
theorem dX8_seek_214 : decode cX8_seek 214 = .ok (.aload_n 0, 1) := dk_42 (dk_at dksX8_seek_9 6 rfl rfl)
theorem dX8_seek_215 : decode cX8_seek 215 = .ok (.aload 5, 2) := dk_25 5 (dk_at dksX8_seek_9 7 rfl rfl)
theorem dX8_seek_217 : decode cX8_seek 217 = .ok (.getfield 117, 3) := dk_180 0 117 (dk_at dksX8_seek_9 9 rfl rfl)
theorem dX8_seek_220 : decode cX8_seek 220 = .ok (.iload 7, 2) := dk_21 7 (dk_at dksX8_seek_9 12 rfl rfl)
theorem dX8_seek_222 : decode cX8_seek 222 = .ok (.iaload, 1) := dk_46 (dk_at dksX8_seek_9 14 rfl rfl)
theorem dX8_seek_223 : decode cX8_seek 223 = .ok (.putfield 120, 3) := dk_181 0 120 (dk_at dksX8_seek_9 15 rfl rfl)
theorem dX8_seek_226 : decode cX8_seek 226 = .ok (.iconst 1, 1) := dk_4 (dk_at dksX8_seek_9 18 rfl rfl)
theorem dX8_seek_227 : decode cX8_seek 227 = .ok (.ireturn, 1) := dk_172 (dk_at dksX8_seek_9 19 rfl rfl)
abbrev cX8_touchWay : ByteArray := prog_4_method_13_code
def yX8_touchWay : MethodName := ⟨RX8, "touchWay", "(JJ)V"⟩
def dkwX8_touchWay_2 : List UInt8 := [167, 255, 223, 177]
abbrev dktX8_touchWay_2 : List UInt8 := dkwX8_touchWay_2 ++ []
def dkwX8_touchWay_1 : List UInt8 := [180, 0, 51, 3, 25, 5, 31, 33, 182, 0, 79, 184, 0, 83, 50, 58, 5, 42, 25, 5, 182, 0, 61]
abbrev dktX8_touchWay_1 : List UInt8 := dkwX8_touchWay_1 ++ dktX8_touchWay_2
def dkwX8_touchWay_0 : List UInt8 := [42, 180, 0, 29, 58, 5, 42, 25, 5, 182, 0, 61, 25, 5, 180, 0, 48, 158, 0, 31, 25, 5]
abbrev dktX8_touchWay_0 : List UInt8 := dkwX8_touchWay_0 ++ dktX8_touchWay_1
theorem dksX8_touchWay_0 : cX8_touchWay.data.toList.drop 0 = dktX8_touchWay_0 := by decide +kernel
theorem dksX8_touchWay_1 : cX8_touchWay.data.toList.drop 22 = dktX8_touchWay_1 := dk_seg dksX8_touchWay_0 22 rfl rfl
theorem dksX8_touchWay_2 : cX8_touchWay.data.toList.drop 45 = dktX8_touchWay_2 := dk_seg dksX8_touchWay_1 23 rfl rfl
theorem dX8_touchWay_0 : decode cX8_touchWay 0 = .ok (.aload_n 0, 1) := dk_42 (dk_at dksX8_touchWay_0 0 rfl rfl)
theorem dX8_touchWay_1 : decode cX8_touchWay 1 = .ok (.getfield 29, 3) := dk_180 0 29 (dk_at dksX8_touchWay_0 1 rfl rfl)
theorem dX8_touchWay_4 : decode cX8_touchWay 4 = .ok (.astore 5, 2) := dk_58 5 (dk_at dksX8_touchWay_0 4 rfl rfl)
theorem dX8_touchWay_6 : decode cX8_touchWay 6 = .ok (.aload_n 0, 1) := dk_42 (dk_at dksX8_touchWay_0 6 rfl rfl)
theorem dX8_touchWay_7 : decode cX8_touchWay 7 = .ok (.aload 5, 2) := dk_25 5 (dk_at dksX8_touchWay_0 7 rfl rfl)
theorem dX8_touchWay_9 : decode cX8_touchWay 9 = .ok (.invokevirtual 61, 3) := dk_182 0 61 (dk_at dksX8_touchWay_0 9 rfl rfl)
theorem dX8_touchWay_12 : decode cX8_touchWay 12 = .ok (.aload 5, 2) := dk_25 5 (dk_at dksX8_touchWay_0 12 rfl rfl)
theorem dX8_touchWay_14 : decode cX8_touchWay 14 = .ok (.getfield 48, 3) := dk_180 0 48 (dk_at dksX8_touchWay_0 14 rfl rfl)
theorem dX8_touchWay_17 : decode cX8_touchWay 17 = .ok (.ifCond .le 31, 3) := dk_158 0 31 (dk_at dksX8_touchWay_0 17 rfl rfl)
theorem dX8_touchWay_20 : decode cX8_touchWay 20 = .ok (.aload 5, 2) := dk_25 5 (dk_at dksX8_touchWay_0 20 rfl rfl)
theorem dX8_touchWay_22 : decode cX8_touchWay 22 = .ok (.getfield 51, 3) := dk_180 0 51 (dk_at dksX8_touchWay_1 0 rfl rfl)
theorem dX8_touchWay_25 : decode cX8_touchWay 25 = .ok (.iconst 0, 1) := dk_3 (dk_at dksX8_touchWay_1 3 rfl rfl)
theorem dX8_touchWay_26 : decode cX8_touchWay 26 = .ok (.aload 5, 2) := dk_25 5 (dk_at dksX8_touchWay_1 4 rfl rfl)
theorem dX8_touchWay_28 : decode cX8_touchWay 28 = .ok (.lload_n 1, 1) := dk_31 (dk_at dksX8_touchWay_1 6 rfl rfl)
theorem dX8_touchWay_29 : decode cX8_touchWay 29 = .ok (.lload_n 3, 1) := dk_33 (dk_at dksX8_touchWay_1 7 rfl rfl)
theorem dX8_touchWay_30 : decode cX8_touchWay 30 = .ok (.invokevirtual 79, 3) := dk_182 0 79 (dk_at dksX8_touchWay_1 8 rfl rfl)
theorem dX8_touchWay_33 : decode cX8_touchWay 33 = .ok (.invokestatic 83, 3) := dk_184 0 83 (dk_at dksX8_touchWay_1 11 rfl rfl)
theorem dX8_touchWay_36 : decode cX8_touchWay 36 = .ok (.aaload, 1) := dk_50 (dk_at dksX8_touchWay_1 14 rfl rfl)
theorem dX8_touchWay_37 : decode cX8_touchWay 37 = .ok (.astore 5, 2) := dk_58 5 (dk_at dksX8_touchWay_1 15 rfl rfl)
theorem dX8_touchWay_39 : decode cX8_touchWay 39 = .ok (.aload_n 0, 1) := dk_42 (dk_at dksX8_touchWay_1 17 rfl rfl)
theorem dX8_touchWay_40 : decode cX8_touchWay 40 = .ok (.aload 5, 2) := dk_25 5 (dk_at dksX8_touchWay_1 18 rfl rfl)
theorem dX8_touchWay_42 : decode cX8_touchWay 42 = .ok (.invokevirtual 61, 3) := dk_182 0 61 (dk_at dksX8_touchWay_1 20 rfl rfl)
theorem dX8_touchWay_45 : decode cX8_touchWay 45 = .ok (.goto (-33), 3) := dk_167 255 223 (dk_at dksX8_touchWay_2 0 rfl rfl)
theorem dX8_touchWay_48 : decode cX8_touchWay 48 = .ok (.return_, 1) := dk_177 (dk_at dksX8_touchWay_2 3 rfl rfl)
abbrev cX8_touch : ByteArray := prog_4_method_7_code
def yX8_touch : MethodName := ⟨RX8, "touch", "(LNandHouse$Knot;)V"⟩
def dkwX8_touch_2 : List UInt8 := [79, 42, 89, 180, 0, 37, 4, 96, 181, 0, 37, 43, 2, 181, 0, 68, 177]
abbrev dktX8_touch_2 : List UInt8 := dkwX8_touch_2 ++ []
def dkwX8_touch_1 : List UInt8 := [180, 0, 17, 42, 180, 0, 37, 43, 180, 0, 68, 79, 42, 180, 0, 21, 42, 180, 0, 37, 43, 180, 0, 71]
abbrev dktX8_touch_1 : List UInt8 := dkwX8_touch_1 ++ dktX8_touch_2
def dkwX8_touch_0 : List UInt8 := [43, 180, 0, 64, 153, 0, 4, 177, 43, 4, 181, 0, 64, 43, 180, 0, 68, 2, 159, 0, 44, 42]
abbrev dktX8_touch_0 : List UInt8 := dkwX8_touch_0 ++ dktX8_touch_1
theorem dksX8_touch_0 : cX8_touch.data.toList.drop 0 = dktX8_touch_0 := by decide +kernel
theorem dksX8_touch_1 : cX8_touch.data.toList.drop 22 = dktX8_touch_1 := dk_seg dksX8_touch_0 22 rfl rfl
theorem dksX8_touch_2 : cX8_touch.data.toList.drop 46 = dktX8_touch_2 := dk_seg dksX8_touch_1 24 rfl rfl
theorem dX8_touch_0 : decode cX8_touch 0 = .ok (.aload_n 1, 1) := dk_43 (dk_at dksX8_touch_0 0 rfl rfl)
theorem dX8_touch_1 : decode cX8_touch 1 = .ok (.getfield 64, 3) := dk_180 0 64 (dk_at dksX8_touch_0 1 rfl rfl)
theorem dX8_touch_4 : decode cX8_touch 4 = .ok (.ifCond .eq 4, 3) := dk_153 0 4 (dk_at dksX8_touch_0 4 rfl rfl)
theorem dX8_touch_7 : decode cX8_touch 7 = .ok (.return_, 1) := dk_177 (dk_at dksX8_touch_0 7 rfl rfl)
theorem dX8_touch_8 : decode cX8_touch 8 = .ok (.aload_n 1, 1) := dk_43 (dk_at dksX8_touch_0 8 rfl rfl)
theorem dX8_touch_9 : decode cX8_touch 9 = .ok (.iconst 1, 1) := dk_4 (dk_at dksX8_touch_0 9 rfl rfl)
theorem dX8_touch_10 : decode cX8_touch 10 = .ok (.putfield 64, 3) := dk_181 0 64 (dk_at dksX8_touch_0 10 rfl rfl)
theorem dX8_touch_13 : decode cX8_touch 13 = .ok (.aload_n 1, 1) := dk_43 (dk_at dksX8_touch_0 13 rfl rfl)
theorem dX8_touch_14 : decode cX8_touch 14 = .ok (.getfield 68, 3) := dk_180 0 68 (dk_at dksX8_touch_0 14 rfl rfl)
theorem dX8_touch_17 : decode cX8_touch 17 = .ok (.iconst (-1), 1) := dk_2 (dk_at dksX8_touch_0 17 rfl rfl)
theorem dX8_touch_18 : decode cX8_touch 18 = .ok (.if_icmp .eq 44, 3) := dk_159 0 44 (dk_at dksX8_touch_0 18 rfl rfl)
theorem dX8_touch_21 : decode cX8_touch 21 = .ok (.aload_n 0, 1) := dk_42 (dk_at dksX8_touch_0 21 rfl rfl)
theorem dX8_touch_22 : decode cX8_touch 22 = .ok (.getfield 17, 3) := dk_180 0 17 (dk_at dksX8_touch_1 0 rfl rfl)
theorem dX8_touch_25 : decode cX8_touch 25 = .ok (.aload_n 0, 1) := dk_42 (dk_at dksX8_touch_1 3 rfl rfl)
theorem dX8_touch_26 : decode cX8_touch 26 = .ok (.getfield 37, 3) := dk_180 0 37 (dk_at dksX8_touch_1 4 rfl rfl)
theorem dX8_touch_29 : decode cX8_touch 29 = .ok (.aload_n 1, 1) := dk_43 (dk_at dksX8_touch_1 7 rfl rfl)
theorem dX8_touch_30 : decode cX8_touch 30 = .ok (.getfield 68, 3) := dk_180 0 68 (dk_at dksX8_touch_1 8 rfl rfl)
theorem dX8_touch_33 : decode cX8_touch 33 = .ok (.iastore, 1) := dk_79 (dk_at dksX8_touch_1 11 rfl rfl)
theorem dX8_touch_34 : decode cX8_touch 34 = .ok (.aload_n 0, 1) := dk_42 (dk_at dksX8_touch_1 12 rfl rfl)
theorem dX8_touch_35 : decode cX8_touch 35 = .ok (.getfield 21, 3) := dk_180 0 21 (dk_at dksX8_touch_1 13 rfl rfl)
theorem dX8_touch_38 : decode cX8_touch 38 = .ok (.aload_n 0, 1) := dk_42 (dk_at dksX8_touch_1 16 rfl rfl)
theorem dX8_touch_39 : decode cX8_touch 39 = .ok (.getfield 37, 3) := dk_180 0 37 (dk_at dksX8_touch_1 17 rfl rfl)
theorem dX8_touch_42 : decode cX8_touch 42 = .ok (.aload_n 1, 1) := dk_43 (dk_at dksX8_touch_1 20 rfl rfl)
theorem dX8_touch_43 : decode cX8_touch 43 = .ok (.getfield 71, 3) := dk_180 0 71 (dk_at dksX8_touch_1 21 rfl rfl)
theorem dX8_touch_46 : decode cX8_touch 46 = .ok (.iastore, 1) := dk_79 (dk_at dksX8_touch_2 0 rfl rfl)
theorem dX8_touch_47 : decode cX8_touch 47 = .ok (.aload_n 0, 1) := dk_42 (dk_at dksX8_touch_2 1 rfl rfl)
theorem dX8_touch_48 : decode cX8_touch 48 = .ok (.dup, 1) := dk_89 (dk_at dksX8_touch_2 2 rfl rfl)
theorem dX8_touch_49 : decode cX8_touch 49 = .ok (.getfield 37, 3) := dk_180 0 37 (dk_at dksX8_touch_2 3 rfl rfl)
theorem dX8_touch_52 : decode cX8_touch 52 = .ok (.iconst 1, 1) := dk_4 (dk_at dksX8_touch_2 6 rfl rfl)
theorem dX8_touch_53 : decode cX8_touch 53 = .ok (.iadd, 1) := dk_96 (dk_at dksX8_touch_2 7 rfl rfl)
theorem dX8_touch_54 : decode cX8_touch 54 = .ok (.putfield 37, 3) := dk_181 0 37 (dk_at dksX8_touch_2 8 rfl rfl)
theorem dX8_touch_57 : decode cX8_touch 57 = .ok (.aload_n 1, 1) := dk_43 (dk_at dksX8_touch_2 11 rfl rfl)
theorem dX8_touch_58 : decode cX8_touch 58 = .ok (.iconst (-1), 1) := dk_2 (dk_at dksX8_touch_2 12 rfl rfl)
theorem dX8_touch_59 : decode cX8_touch 59 = .ok (.putfield 68, 3) := dk_181 0 68 (dk_at dksX8_touch_2 13 rfl rfl)
theorem dX8_touch_62 : decode cX8_touch 62 = .ok (.return_, 1) := dk_177 (dk_at dksX8_touch_2 16 rfl rfl)
abbrev cX8_insert : ByteArray := prog_4_method_15_code
def yX8_insert : MethodName := ⟨RX8, "insert", "(LNandHouse$Knot;JJ)LNandHouse$Knot;"⟩
def dkwX8_insert_5 : List UInt8 := [25, 8, 182, 0, 142, 43, 180, 0, 45, 16, 8, 164, 0, 11, 42, 43, 182, 0, 149, 167, 0, 4, 1, 176]
abbrev dktX8_insert_5 : List UInt8 := dkwX8_insert_5 ++ []
def dkwX8_insert_4 : List UInt8 := [4, 96, 182, 0, 146, 43, 21, 7, 4, 96, 25, 8, 180, 0, 89, 3, 47, 25, 8, 180, 0, 93, 3, 47]
abbrev dktX8_insert_4 : List UInt8 := dkwX8_insert_4 ++ dktX8_insert_5
def dkwX8_insert_3 : List UInt8 := [42, 43, 180, 0, 51, 21, 7, 50, 32, 22, 4, 182, 0, 135, 58, 8, 25, 8, 198, 0, 35, 43, 21, 7]
abbrev dktX8_insert_3 : List UInt8 := dkwX8_insert_3 ++ dktX8_insert_4
def dkwX8_insert_2 : List UInt8 := [184, 0, 83, 54, 7, 21, 6, 156, 0, 17, 43, 3, 32, 22, 4, 43, 180, 0, 51, 3, 50, 182, 0, 142]
abbrev dktX8_insert_2 : List UInt8 := dkwX8_insert_2 ++ dktX8_insert_3
def dkwX8_insert_1 : List UInt8 := [4, 96, 182, 0, 146, 43, 21, 6, 4, 96, 32, 22, 4, 1, 182, 0, 142, 167, 0, 83, 3, 21, 6]
abbrev dktX8_insert_1 : List UInt8 := dkwX8_insert_1 ++ dktX8_insert_2
def dkwX8_insert_0 : List UInt8 := [42, 43, 182, 0, 61, 43, 32, 22, 4, 182, 0, 79, 54, 6, 43, 180, 0, 48, 154, 0, 26, 43, 21, 6]
abbrev dktX8_insert_0 : List UInt8 := dkwX8_insert_0 ++ dktX8_insert_1
theorem dksX8_insert_0 : cX8_insert.data.toList.drop 0 = dktX8_insert_0 := by decide +kernel
theorem dksX8_insert_1 : cX8_insert.data.toList.drop 24 = dktX8_insert_1 := dk_seg dksX8_insert_0 24 rfl rfl
theorem dksX8_insert_2 : cX8_insert.data.toList.drop 47 = dktX8_insert_2 := dk_seg dksX8_insert_1 23 rfl rfl
theorem dksX8_insert_3 : cX8_insert.data.toList.drop 71 = dktX8_insert_3 := dk_seg dksX8_insert_2 24 rfl rfl
theorem dksX8_insert_4 : cX8_insert.data.toList.drop 95 = dktX8_insert_4 := dk_seg dksX8_insert_3 24 rfl rfl
theorem dksX8_insert_5 : cX8_insert.data.toList.drop 119 = dktX8_insert_5 := dk_seg dksX8_insert_4 24 rfl rfl
theorem dX8_insert_0 : decode cX8_insert 0 = .ok (.aload_n 0, 1) := dk_42 (dk_at dksX8_insert_0 0 rfl rfl)
theorem dX8_insert_1 : decode cX8_insert 1 = .ok (.aload_n 1, 1) := dk_43 (dk_at dksX8_insert_0 1 rfl rfl)
theorem dX8_insert_2 : decode cX8_insert 2 = .ok (.invokevirtual 61, 3) := dk_182 0 61 (dk_at dksX8_insert_0 2 rfl rfl)
theorem dX8_insert_5 : decode cX8_insert 5 = .ok (.aload_n 1, 1) := dk_43 (dk_at dksX8_insert_0 5 rfl rfl)
theorem dX8_insert_6 : decode cX8_insert 6 = .ok (.lload_n 2, 1) := dk_32 (dk_at dksX8_insert_0 6 rfl rfl)
theorem dX8_insert_7 : decode cX8_insert 7 = .ok (.lload 4, 2) := dk_22 4 (dk_at dksX8_insert_0 7 rfl rfl)
theorem dX8_insert_9 : decode cX8_insert 9 = .ok (.invokevirtual 79, 3) := dk_182 0 79 (dk_at dksX8_insert_0 9 rfl rfl)
theorem dX8_insert_12 : decode cX8_insert 12 = .ok (.istore 6, 2) := dk_54 6 (dk_at dksX8_insert_0 12 rfl rfl)
theorem dX8_insert_14 : decode cX8_insert 14 = .ok (.aload_n 1, 1) := dk_43 (dk_at dksX8_insert_0 14 rfl rfl)
theorem dX8_insert_15 : decode cX8_insert 15 = .ok (.getfield 48, 3) := dk_180 0 48 (dk_at dksX8_insert_0 15 rfl rfl)
theorem dX8_insert_18 : decode cX8_insert 18 = .ok (.ifCond .ne 26, 3) := dk_154 0 26 (dk_at dksX8_insert_0 18 rfl rfl)
theorem dX8_insert_21 : decode cX8_insert 21 = .ok (.aload_n 1, 1) := dk_43 (dk_at dksX8_insert_0 21 rfl rfl)
theorem dX8_insert_22 : decode cX8_insert 22 = .ok (.iload 6, 2) := dk_21 6 (dk_at dksX8_insert_0 22 rfl rfl)
theorem dX8_insert_24 : decode cX8_insert 24 = .ok (.iconst 1, 1) := dk_4 (dk_at dksX8_insert_1 0 rfl rfl)
theorem dX8_insert_25 : decode cX8_insert 25 = .ok (.iadd, 1) := dk_96 (dk_at dksX8_insert_1 1 rfl rfl)
theorem dX8_insert_26 : decode cX8_insert 26 = .ok (.invokevirtual 146, 3) := dk_182 0 146 (dk_at dksX8_insert_1 2 rfl rfl)
theorem dX8_insert_29 : decode cX8_insert 29 = .ok (.aload_n 1, 1) := dk_43 (dk_at dksX8_insert_1 5 rfl rfl)
theorem dX8_insert_30 : decode cX8_insert 30 = .ok (.iload 6, 2) := dk_21 6 (dk_at dksX8_insert_1 6 rfl rfl)
theorem dX8_insert_32 : decode cX8_insert 32 = .ok (.iconst 1, 1) := dk_4 (dk_at dksX8_insert_1 8 rfl rfl)
theorem dX8_insert_33 : decode cX8_insert 33 = .ok (.iadd, 1) := dk_96 (dk_at dksX8_insert_1 9 rfl rfl)
theorem dX8_insert_34 : decode cX8_insert 34 = .ok (.lload_n 2, 1) := dk_32 (dk_at dksX8_insert_1 10 rfl rfl)
theorem dX8_insert_35 : decode cX8_insert 35 = .ok (.lload 4, 2) := dk_22 4 (dk_at dksX8_insert_1 11 rfl rfl)
theorem dX8_insert_37 : decode cX8_insert 37 = .ok (.aconst_null, 1) := dk_1 (dk_at dksX8_insert_1 13 rfl rfl)
theorem dX8_insert_38 : decode cX8_insert 38 = .ok (.invokevirtual 142, 3) := dk_182 0 142 (dk_at dksX8_insert_1 14 rfl rfl)
theorem dX8_insert_41 : decode cX8_insert 41 = .ok (.goto 83, 3) := dk_167 0 83 (dk_at dksX8_insert_1 17 rfl rfl)
theorem dX8_insert_44 : decode cX8_insert 44 = .ok (.iconst 0, 1) := dk_3 (dk_at dksX8_insert_1 20 rfl rfl)
theorem dX8_insert_45 : decode cX8_insert 45 = .ok (.iload 6, 2) := dk_21 6 (dk_at dksX8_insert_1 21 rfl rfl)
theorem dX8_insert_47 : decode cX8_insert 47 = .ok (.invokestatic 83, 3) := dk_184 0 83 (dk_at dksX8_insert_2 0 rfl rfl)
theorem dX8_insert_50 : decode cX8_insert 50 = .ok (.istore 7, 2) := dk_54 7 (dk_at dksX8_insert_2 3 rfl rfl)
theorem dX8_insert_52 : decode cX8_insert 52 = .ok (.iload 6, 2) := dk_21 6 (dk_at dksX8_insert_2 5 rfl rfl)
theorem dX8_insert_54 : decode cX8_insert 54 = .ok (.ifCond .ge 17, 3) := dk_156 0 17 (dk_at dksX8_insert_2 7 rfl rfl)
theorem dX8_insert_57 : decode cX8_insert 57 = .ok (.aload_n 1, 1) := dk_43 (dk_at dksX8_insert_2 10 rfl rfl)
theorem dX8_insert_58 : decode cX8_insert 58 = .ok (.iconst 0, 1) := dk_3 (dk_at dksX8_insert_2 11 rfl rfl)
theorem dX8_insert_59 : decode cX8_insert 59 = .ok (.lload_n 2, 1) := dk_32 (dk_at dksX8_insert_2 12 rfl rfl)
theorem dX8_insert_60 : decode cX8_insert 60 = .ok (.lload 4, 2) := dk_22 4 (dk_at dksX8_insert_2 13 rfl rfl)
theorem dX8_insert_62 : decode cX8_insert 62 = .ok (.aload_n 1, 1) := dk_43 (dk_at dksX8_insert_2 15 rfl rfl)
theorem dX8_insert_63 : decode cX8_insert 63 = .ok (.getfield 51, 3) := dk_180 0 51 (dk_at dksX8_insert_2 16 rfl rfl)
theorem dX8_insert_66 : decode cX8_insert 66 = .ok (.iconst 0, 1) := dk_3 (dk_at dksX8_insert_2 19 rfl rfl)
theorem dX8_insert_67 : decode cX8_insert 67 = .ok (.aaload, 1) := dk_50 (dk_at dksX8_insert_2 20 rfl rfl)
theorem dX8_insert_68 : decode cX8_insert 68 = .ok (.invokevirtual 142, 3) := dk_182 0 142 (dk_at dksX8_insert_2 21 rfl rfl)
theorem dX8_insert_71 : decode cX8_insert 71 = .ok (.aload_n 0, 1) := dk_42 (dk_at dksX8_insert_3 0 rfl rfl)
theorem dX8_insert_72 : decode cX8_insert 72 = .ok (.aload_n 1, 1) := dk_43 (dk_at dksX8_insert_3 1 rfl rfl)
theorem dX8_insert_73 : decode cX8_insert 73 = .ok (.getfield 51, 3) := dk_180 0 51 (dk_at dksX8_insert_3 2 rfl rfl)
theorem dX8_insert_76 : decode cX8_insert 76 = .ok (.iload 7, 2) := dk_21 7 (dk_at dksX8_insert_3 5 rfl rfl)
theorem dX8_insert_78 : decode cX8_insert 78 = .ok (.aaload, 1) := dk_50 (dk_at dksX8_insert_3 7 rfl rfl)
theorem dX8_insert_79 : decode cX8_insert 79 = .ok (.lload_n 2, 1) := dk_32 (dk_at dksX8_insert_3 8 rfl rfl)
theorem dX8_insert_80 : decode cX8_insert 80 = .ok (.lload 4, 2) := dk_22 4 (dk_at dksX8_insert_3 9 rfl rfl)
theorem dX8_insert_82 : decode cX8_insert 82 = .ok (.invokevirtual 135, 3) := dk_182 0 135 (dk_at dksX8_insert_3 11 rfl rfl)
theorem dX8_insert_85 : decode cX8_insert 85 = .ok (.astore 8, 2) := dk_58 8 (dk_at dksX8_insert_3 14 rfl rfl)
theorem dX8_insert_87 : decode cX8_insert 87 = .ok (.aload 8, 2) := dk_25 8 (dk_at dksX8_insert_3 16 rfl rfl)
theorem dX8_insert_89 : decode cX8_insert 89 = .ok (.ifnull 35, 3) := dk_198 0 35 (dk_at dksX8_insert_3 18 rfl rfl)
theorem dX8_insert_92 : decode cX8_insert 92 = .ok (.aload_n 1, 1) := dk_43 (dk_at dksX8_insert_3 21 rfl rfl)
theorem dX8_insert_93 : decode cX8_insert 93 = .ok (.iload 7, 2) := dk_21 7 (dk_at dksX8_insert_3 22 rfl rfl)
theorem dX8_insert_95 : decode cX8_insert 95 = .ok (.iconst 1, 1) := dk_4 (dk_at dksX8_insert_4 0 rfl rfl)
theorem dX8_insert_96 : decode cX8_insert 96 = .ok (.iadd, 1) := dk_96 (dk_at dksX8_insert_4 1 rfl rfl)
theorem dX8_insert_97 : decode cX8_insert 97 = .ok (.invokevirtual 146, 3) := dk_182 0 146 (dk_at dksX8_insert_4 2 rfl rfl)
theorem dX8_insert_100 : decode cX8_insert 100 = .ok (.aload_n 1, 1) := dk_43 (dk_at dksX8_insert_4 5 rfl rfl)
theorem dX8_insert_101 : decode cX8_insert 101 = .ok (.iload 7, 2) := dk_21 7 (dk_at dksX8_insert_4 6 rfl rfl)
theorem dX8_insert_103 : decode cX8_insert 103 = .ok (.iconst 1, 1) := dk_4 (dk_at dksX8_insert_4 8 rfl rfl)
theorem dX8_insert_104 : decode cX8_insert 104 = .ok (.iadd, 1) := dk_96 (dk_at dksX8_insert_4 9 rfl rfl)
theorem dX8_insert_105 : decode cX8_insert 105 = .ok (.aload 8, 2) := dk_25 8 (dk_at dksX8_insert_4 10 rfl rfl)
theorem dX8_insert_107 : decode cX8_insert 107 = .ok (.getfield 89, 3) := dk_180 0 89 (dk_at dksX8_insert_4 12 rfl rfl)
theorem dX8_insert_110 : decode cX8_insert 110 = .ok (.iconst 0, 1) := dk_3 (dk_at dksX8_insert_4 15 rfl rfl)
theorem dX8_insert_111 : decode cX8_insert 111 = .ok (.laload, 1) := dk_47 (dk_at dksX8_insert_4 16 rfl rfl)
theorem dX8_insert_112 : decode cX8_insert 112 = .ok (.aload 8, 2) := dk_25 8 (dk_at dksX8_insert_4 17 rfl rfl)
theorem dX8_insert_114 : decode cX8_insert 114 = .ok (.getfield 93, 3) := dk_180 0 93 (dk_at dksX8_insert_4 19 rfl rfl)
theorem dX8_insert_117 : decode cX8_insert 117 = .ok (.iconst 0, 1) := dk_3 (dk_at dksX8_insert_4 22 rfl rfl)
theorem dX8_insert_118 : decode cX8_insert 118 = .ok (.laload, 1) := dk_47 (dk_at dksX8_insert_4 23 rfl rfl)
theorem dX8_insert_119 : decode cX8_insert 119 = .ok (.aload 8, 2) := dk_25 8 (dk_at dksX8_insert_5 0 rfl rfl)
theorem dX8_insert_121 : decode cX8_insert 121 = .ok (.invokevirtual 142, 3) := dk_182 0 142 (dk_at dksX8_insert_5 2 rfl rfl)
theorem dX8_insert_124 : decode cX8_insert 124 = .ok (.aload_n 1, 1) := dk_43 (dk_at dksX8_insert_5 5 rfl rfl)
theorem dX8_insert_125 : decode cX8_insert 125 = .ok (.getfield 45, 3) := dk_180 0 45 (dk_at dksX8_insert_5 6 rfl rfl)
theorem dX8_insert_128 : decode cX8_insert 128 = .ok (.bipush 8, 2) := dk_16 8 (dk_at dksX8_insert_5 9 rfl rfl)
theorem dX8_insert_130 : decode cX8_insert 130 = .ok (.if_icmp .le 11, 3) := dk_164 0 11 (dk_at dksX8_insert_5 11 rfl rfl)
theorem dX8_insert_133 : decode cX8_insert 133 = .ok (.aload_n 0, 1) := dk_42 (dk_at dksX8_insert_5 14 rfl rfl)
theorem dX8_insert_134 : decode cX8_insert 134 = .ok (.aload_n 1, 1) := dk_43 (dk_at dksX8_insert_5 15 rfl rfl)
theorem dX8_insert_135 : decode cX8_insert 135 = .ok (.invokevirtual 149, 3) := dk_182 0 149 (dk_at dksX8_insert_5 16 rfl rfl)
theorem dX8_insert_138 : decode cX8_insert 138 = .ok (.goto 4, 3) := dk_167 0 4 (dk_at dksX8_insert_5 19 rfl rfl)
theorem dX8_insert_141 : decode cX8_insert 141 = .ok (.aconst_null, 1) := dk_1 (dk_at dksX8_insert_5 22 rfl rfl)
theorem dX8_insert_142 : decode cX8_insert 142 = .ok (.areturn, 1) := dk_176 (dk_at dksX8_insert_5 23 rfl rfl)
abbrev cX8_halve : ByteArray := prog_4_method_16_code
def yX8_halve : MethodName := ⟨RX8, "halve", "(LNandHouse$Knot;)LNandHouse$Knot;"⟩
def dkwX8_halve_2 : List UInt8 := [43, 180, 0, 51, 21, 4, 1, 83, 132, 4, 1, 167, 255, 218, 43, 29, 181, 0, 45, 44, 176]
abbrev dktX8_halve_2 : List UInt8 := dkwX8_halve_2 ++ []
def dkwX8_halve_1 : List UInt8 := [180, 0, 45, 162, 0, 35, 44, 44, 89, 180, 0, 45, 90, 4, 96, 181, 0, 45, 43, 21, 4, 182, 0, 153]
abbrev dktX8_halve_1 : List UInt8 := dkwX8_halve_1 ++ dktX8_halve_2
def dkwX8_halve_0 : List UInt8 := [42, 43, 180, 0, 48, 182, 0, 41, 77, 43, 180, 0, 45, 4, 96, 5, 108, 62, 29, 54, 4, 21, 4, 43]
abbrev dktX8_halve_0 : List UInt8 := dkwX8_halve_0 ++ dktX8_halve_1
theorem dksX8_halve_0 : cX8_halve.data.toList.drop 0 = dktX8_halve_0 := by decide +kernel
theorem dksX8_halve_1 : cX8_halve.data.toList.drop 24 = dktX8_halve_1 := dk_seg dksX8_halve_0 24 rfl rfl
theorem dksX8_halve_2 : cX8_halve.data.toList.drop 48 = dktX8_halve_2 := dk_seg dksX8_halve_1 24 rfl rfl
theorem dX8_halve_0 : decode cX8_halve 0 = .ok (.aload_n 0, 1) := dk_42 (dk_at dksX8_halve_0 0 rfl rfl)
theorem dX8_halve_1 : decode cX8_halve 1 = .ok (.aload_n 1, 1) := dk_43 (dk_at dksX8_halve_0 1 rfl rfl)
theorem dX8_halve_2 : decode cX8_halve 2 = .ok (.getfield 48, 3) := dk_180 0 48 (dk_at dksX8_halve_0 2 rfl rfl)
theorem dX8_halve_5 : decode cX8_halve 5 = .ok (.invokevirtual 41, 3) := dk_182 0 41 (dk_at dksX8_halve_0 5 rfl rfl)
theorem dX8_halve_8 : decode cX8_halve 8 = .ok (.astore_n 2, 1) := dk_77 (dk_at dksX8_halve_0 8 rfl rfl)
theorem dX8_halve_9 : decode cX8_halve 9 = .ok (.aload_n 1, 1) := dk_43 (dk_at dksX8_halve_0 9 rfl rfl)
theorem dX8_halve_10 : decode cX8_halve 10 = .ok (.getfield 45, 3) := dk_180 0 45 (dk_at dksX8_halve_0 10 rfl rfl)
theorem dX8_halve_13 : decode cX8_halve 13 = .ok (.iconst 1, 1) := dk_4 (dk_at dksX8_halve_0 13 rfl rfl)
theorem dX8_halve_14 : decode cX8_halve 14 = .ok (.iadd, 1) := dk_96 (dk_at dksX8_halve_0 14 rfl rfl)
theorem dX8_halve_15 : decode cX8_halve 15 = .ok (.iconst 2, 1) := dk_5 (dk_at dksX8_halve_0 15 rfl rfl)
theorem dX8_halve_16 : decode cX8_halve 16 = .ok (.idiv, 1) := dk_108 (dk_at dksX8_halve_0 16 rfl rfl)
theorem dX8_halve_17 : decode cX8_halve 17 = .ok (.istore_n 3, 1) := dk_62 (dk_at dksX8_halve_0 17 rfl rfl)
theorem dX8_halve_18 : decode cX8_halve 18 = .ok (.iload_n 3, 1) := dk_29 (dk_at dksX8_halve_0 18 rfl rfl)
theorem dX8_halve_19 : decode cX8_halve 19 = .ok (.istore 4, 2) := dk_54 4 (dk_at dksX8_halve_0 19 rfl rfl)
theorem dX8_halve_21 : decode cX8_halve 21 = .ok (.iload 4, 2) := dk_21 4 (dk_at dksX8_halve_0 21 rfl rfl)
theorem dX8_halve_23 : decode cX8_halve 23 = .ok (.aload_n 1, 1) := dk_43 (dk_at dksX8_halve_0 23 rfl rfl)
theorem dX8_halve_24 : decode cX8_halve 24 = .ok (.getfield 45, 3) := dk_180 0 45 (dk_at dksX8_halve_1 0 rfl rfl)
theorem dX8_halve_27 : decode cX8_halve 27 = .ok (.if_icmp .ge 35, 3) := dk_162 0 35 (dk_at dksX8_halve_1 3 rfl rfl)
theorem dX8_halve_30 : decode cX8_halve 30 = .ok (.aload_n 2, 1) := dk_44 (dk_at dksX8_halve_1 6 rfl rfl)
theorem dX8_halve_31 : decode cX8_halve 31 = .ok (.aload_n 2, 1) := dk_44 (dk_at dksX8_halve_1 7 rfl rfl)
theorem dX8_halve_32 : decode cX8_halve 32 = .ok (.dup, 1) := dk_89 (dk_at dksX8_halve_1 8 rfl rfl)
theorem dX8_halve_33 : decode cX8_halve 33 = .ok (.getfield 45, 3) := dk_180 0 45 (dk_at dksX8_halve_1 9 rfl rfl)
theorem dX8_halve_36 : decode cX8_halve 36 = .ok (.dup_x1, 1) := dk_90 (dk_at dksX8_halve_1 12 rfl rfl)
theorem dX8_halve_37 : decode cX8_halve 37 = .ok (.iconst 1, 1) := dk_4 (dk_at dksX8_halve_1 13 rfl rfl)
theorem dX8_halve_38 : decode cX8_halve 38 = .ok (.iadd, 1) := dk_96 (dk_at dksX8_halve_1 14 rfl rfl)
theorem dX8_halve_39 : decode cX8_halve 39 = .ok (.putfield 45, 3) := dk_181 0 45 (dk_at dksX8_halve_1 15 rfl rfl)
theorem dX8_halve_42 : decode cX8_halve 42 = .ok (.aload_n 1, 1) := dk_43 (dk_at dksX8_halve_1 18 rfl rfl)
theorem dX8_halve_43 : decode cX8_halve 43 = .ok (.iload 4, 2) := dk_21 4 (dk_at dksX8_halve_1 19 rfl rfl)
theorem dX8_halve_45 : decode cX8_halve 45 = .ok (.invokevirtual 153, 3) := dk_182 0 153 (dk_at dksX8_halve_1 21 rfl rfl)
theorem dX8_halve_48 : decode cX8_halve 48 = .ok (.aload_n 1, 1) := dk_43 (dk_at dksX8_halve_2 0 rfl rfl)
theorem dX8_halve_49 : decode cX8_halve 49 = .ok (.getfield 51, 3) := dk_180 0 51 (dk_at dksX8_halve_2 1 rfl rfl)
theorem dX8_halve_52 : decode cX8_halve 52 = .ok (.iload 4, 2) := dk_21 4 (dk_at dksX8_halve_2 4 rfl rfl)
theorem dX8_halve_54 : decode cX8_halve 54 = .ok (.aconst_null, 1) := dk_1 (dk_at dksX8_halve_2 6 rfl rfl)
theorem dX8_halve_55 : decode cX8_halve 55 = .ok (.aastore, 1) := dk_83 (dk_at dksX8_halve_2 7 rfl rfl)
theorem dX8_halve_56 : decode cX8_halve 56 = .ok (.iinc 4 1, 3) := dk_132 4 1 (dk_at dksX8_halve_2 8 rfl rfl)
theorem dX8_halve_59 : decode cX8_halve 59 = .ok (.goto (-38), 3) := dk_167 255 218 (dk_at dksX8_halve_2 11 rfl rfl)
theorem dX8_halve_62 : decode cX8_halve 62 = .ok (.aload_n 1, 1) := dk_43 (dk_at dksX8_halve_2 14 rfl rfl)
theorem dX8_halve_63 : decode cX8_halve 63 = .ok (.iload_n 3, 1) := dk_29 (dk_at dksX8_halve_2 15 rfl rfl)
theorem dX8_halve_64 : decode cX8_halve 64 = .ok (.putfield 45, 3) := dk_181 0 45 (dk_at dksX8_halve_2 16 rfl rfl)
theorem dX8_halve_67 : decode cX8_halve 67 = .ok (.aload_n 2, 1) := dk_44 (dk_at dksX8_halve_2 19 rfl rfl)
theorem dX8_halve_68 : decode cX8_halve 68 = .ok (.areturn, 1) := dk_176 (dk_at dksX8_halve_2 20 rfl rfl)
abbrev cX8_grow : ByteArray := prog_4_method_14_code
def yX8_grow : MethodName := ⟨RX8, "grow", "(LNandHouse$Knot;)V"⟩
def dkwX8_grow_2 : List UInt8 := [44, 4, 43, 180, 0, 89, 3, 47, 43, 180, 0, 93, 3, 47, 43, 182, 0, 142, 42, 44, 181, 0, 29, 177]
abbrev dktX8_grow_2 : List UInt8 := dkwX8_grow_2 ++ []
def dkwX8_grow_1 : List UInt8 := [180, 0, 29, 180, 0, 89, 3, 47, 42, 180, 0, 29, 180, 0, 93, 3, 47, 42, 180, 0, 29, 182, 0, 142]
abbrev dktX8_grow_1 : List UInt8 := dkwX8_grow_1 ++ dktX8_grow_2
def dkwX8_grow_0 : List UInt8 := [42, 42, 180, 0, 29, 180, 0, 48, 4, 96, 182, 0, 41, 77, 44, 5, 181, 0, 45, 44, 3, 42]
abbrev dktX8_grow_0 : List UInt8 := dkwX8_grow_0 ++ dktX8_grow_1
theorem dksX8_grow_0 : cX8_grow.data.toList.drop 0 = dktX8_grow_0 := by decide +kernel
theorem dksX8_grow_1 : cX8_grow.data.toList.drop 22 = dktX8_grow_1 := dk_seg dksX8_grow_0 22 rfl rfl
theorem dksX8_grow_2 : cX8_grow.data.toList.drop 46 = dktX8_grow_2 := dk_seg dksX8_grow_1 24 rfl rfl
theorem dX8_grow_0 : decode cX8_grow 0 = .ok (.aload_n 0, 1) := dk_42 (dk_at dksX8_grow_0 0 rfl rfl)
theorem dX8_grow_1 : decode cX8_grow 1 = .ok (.aload_n 0, 1) := dk_42 (dk_at dksX8_grow_0 1 rfl rfl)
theorem dX8_grow_2 : decode cX8_grow 2 = .ok (.getfield 29, 3) := dk_180 0 29 (dk_at dksX8_grow_0 2 rfl rfl)
theorem dX8_grow_5 : decode cX8_grow 5 = .ok (.getfield 48, 3) := dk_180 0 48 (dk_at dksX8_grow_0 5 rfl rfl)
theorem dX8_grow_8 : decode cX8_grow 8 = .ok (.iconst 1, 1) := dk_4 (dk_at dksX8_grow_0 8 rfl rfl)
theorem dX8_grow_9 : decode cX8_grow 9 = .ok (.iadd, 1) := dk_96 (dk_at dksX8_grow_0 9 rfl rfl)
theorem dX8_grow_10 : decode cX8_grow 10 = .ok (.invokevirtual 41, 3) := dk_182 0 41 (dk_at dksX8_grow_0 10 rfl rfl)
theorem dX8_grow_13 : decode cX8_grow 13 = .ok (.astore_n 2, 1) := dk_77 (dk_at dksX8_grow_0 13 rfl rfl)
theorem dX8_grow_14 : decode cX8_grow 14 = .ok (.aload_n 2, 1) := dk_44 (dk_at dksX8_grow_0 14 rfl rfl)
theorem dX8_grow_15 : decode cX8_grow 15 = .ok (.iconst 2, 1) := dk_5 (dk_at dksX8_grow_0 15 rfl rfl)
theorem dX8_grow_16 : decode cX8_grow 16 = .ok (.putfield 45, 3) := dk_181 0 45 (dk_at dksX8_grow_0 16 rfl rfl)
theorem dX8_grow_19 : decode cX8_grow 19 = .ok (.aload_n 2, 1) := dk_44 (dk_at dksX8_grow_0 19 rfl rfl)
theorem dX8_grow_20 : decode cX8_grow 20 = .ok (.iconst 0, 1) := dk_3 (dk_at dksX8_grow_0 20 rfl rfl)
theorem dX8_grow_21 : decode cX8_grow 21 = .ok (.aload_n 0, 1) := dk_42 (dk_at dksX8_grow_0 21 rfl rfl)
theorem dX8_grow_22 : decode cX8_grow 22 = .ok (.getfield 29, 3) := dk_180 0 29 (dk_at dksX8_grow_1 0 rfl rfl)
theorem dX8_grow_25 : decode cX8_grow 25 = .ok (.getfield 89, 3) := dk_180 0 89 (dk_at dksX8_grow_1 3 rfl rfl)
theorem dX8_grow_28 : decode cX8_grow 28 = .ok (.iconst 0, 1) := dk_3 (dk_at dksX8_grow_1 6 rfl rfl)
theorem dX8_grow_29 : decode cX8_grow 29 = .ok (.laload, 1) := dk_47 (dk_at dksX8_grow_1 7 rfl rfl)
theorem dX8_grow_30 : decode cX8_grow 30 = .ok (.aload_n 0, 1) := dk_42 (dk_at dksX8_grow_1 8 rfl rfl)
theorem dX8_grow_31 : decode cX8_grow 31 = .ok (.getfield 29, 3) := dk_180 0 29 (dk_at dksX8_grow_1 9 rfl rfl)
theorem dX8_grow_34 : decode cX8_grow 34 = .ok (.getfield 93, 3) := dk_180 0 93 (dk_at dksX8_grow_1 12 rfl rfl)
theorem dX8_grow_37 : decode cX8_grow 37 = .ok (.iconst 0, 1) := dk_3 (dk_at dksX8_grow_1 15 rfl rfl)
theorem dX8_grow_38 : decode cX8_grow 38 = .ok (.laload, 1) := dk_47 (dk_at dksX8_grow_1 16 rfl rfl)
theorem dX8_grow_39 : decode cX8_grow 39 = .ok (.aload_n 0, 1) := dk_42 (dk_at dksX8_grow_1 17 rfl rfl)
theorem dX8_grow_40 : decode cX8_grow 40 = .ok (.getfield 29, 3) := dk_180 0 29 (dk_at dksX8_grow_1 18 rfl rfl)
theorem dX8_grow_43 : decode cX8_grow 43 = .ok (.invokevirtual 142, 3) := dk_182 0 142 (dk_at dksX8_grow_1 21 rfl rfl)
theorem dX8_grow_46 : decode cX8_grow 46 = .ok (.aload_n 2, 1) := dk_44 (dk_at dksX8_grow_2 0 rfl rfl)
theorem dX8_grow_47 : decode cX8_grow 47 = .ok (.iconst 1, 1) := dk_4 (dk_at dksX8_grow_2 1 rfl rfl)
theorem dX8_grow_48 : decode cX8_grow 48 = .ok (.aload_n 1, 1) := dk_43 (dk_at dksX8_grow_2 2 rfl rfl)
theorem dX8_grow_49 : decode cX8_grow 49 = .ok (.getfield 89, 3) := dk_180 0 89 (dk_at dksX8_grow_2 3 rfl rfl)
theorem dX8_grow_52 : decode cX8_grow 52 = .ok (.iconst 0, 1) := dk_3 (dk_at dksX8_grow_2 6 rfl rfl)
theorem dX8_grow_53 : decode cX8_grow 53 = .ok (.laload, 1) := dk_47 (dk_at dksX8_grow_2 7 rfl rfl)
theorem dX8_grow_54 : decode cX8_grow 54 = .ok (.aload_n 1, 1) := dk_43 (dk_at dksX8_grow_2 8 rfl rfl)
theorem dX8_grow_55 : decode cX8_grow 55 = .ok (.getfield 93, 3) := dk_180 0 93 (dk_at dksX8_grow_2 9 rfl rfl)
theorem dX8_grow_58 : decode cX8_grow 58 = .ok (.iconst 0, 1) := dk_3 (dk_at dksX8_grow_2 12 rfl rfl)
theorem dX8_grow_59 : decode cX8_grow 59 = .ok (.laload, 1) := dk_47 (dk_at dksX8_grow_2 13 rfl rfl)
theorem dX8_grow_60 : decode cX8_grow 60 = .ok (.aload_n 1, 1) := dk_43 (dk_at dksX8_grow_2 14 rfl rfl)
theorem dX8_grow_61 : decode cX8_grow 61 = .ok (.invokevirtual 142, 3) := dk_182 0 142 (dk_at dksX8_grow_2 15 rfl rfl)
theorem dX8_grow_64 : decode cX8_grow 64 = .ok (.aload_n 0, 1) := dk_42 (dk_at dksX8_grow_2 18 rfl rfl)
theorem dX8_grow_65 : decode cX8_grow 65 = .ok (.aload_n 2, 1) := dk_44 (dk_at dksX8_grow_2 19 rfl rfl)
theorem dX8_grow_66 : decode cX8_grow 66 = .ok (.putfield 29, 3) := dk_181 0 29 (dk_at dksX8_grow_2 20 rfl rfl)
theorem dX8_grow_69 : decode cX8_grow 69 = .ok (.return_, 1) := dk_177 (dk_at dksX8_grow_2 23 rfl rfl)
abbrev cX8_sizeOf : ByteArray := prog_4_method_23_code
def yX8_sizeOf : MethodName := ⟨RX8, "sizeOf", "(LNandHouse$Knot;)I"⟩
def dkwX8_sizeOf_0 : List UInt8 := [16, 32, 16, 28, 42, 180, 0, 45, 104, 96, 184, 0, 183, 172]
abbrev dktX8_sizeOf_0 : List UInt8 := dkwX8_sizeOf_0 ++ []
theorem dksX8_sizeOf_0 : cX8_sizeOf.data.toList.drop 0 = dktX8_sizeOf_0 := by decide +kernel
theorem dX8_sizeOf_0 : decode cX8_sizeOf 0 = .ok (.bipush 32, 2) := dk_16 32 (dk_at dksX8_sizeOf_0 0 rfl rfl)
theorem dX8_sizeOf_2 : decode cX8_sizeOf 2 = .ok (.bipush 28, 2) := dk_16 28 (dk_at dksX8_sizeOf_0 2 rfl rfl)
theorem dX8_sizeOf_4 : decode cX8_sizeOf 4 = .ok (.aload_n 0, 1) := dk_42 (dk_at dksX8_sizeOf_0 4 rfl rfl)
theorem dX8_sizeOf_5 : decode cX8_sizeOf 5 = .ok (.getfield 45, 3) := dk_180 0 45 (dk_at dksX8_sizeOf_0 5 rfl rfl)
theorem dX8_sizeOf_8 : decode cX8_sizeOf 8 = .ok (.imul, 1) := dk_104 (dk_at dksX8_sizeOf_0 8 rfl rfl)
theorem dX8_sizeOf_9 : decode cX8_sizeOf 9 = .ok (.iadd, 1) := dk_96 (dk_at dksX8_sizeOf_0 9 rfl rfl)
theorem dX8_sizeOf_10 : decode cX8_sizeOf 10 = .ok (.invokestatic 183, 3) := dk_184 0 183 (dk_at dksX8_sizeOf_0 10 rfl rfl)
theorem dX8_sizeOf_13 : decode cX8_sizeOf 13 = .ok (.ireturn, 1) := dk_172 (dk_at dksX8_sizeOf_0 13 rfl rfl)
abbrev cX8_written : ByteArray := prog_4_method_8_code
def yX8_written : MethodName := ⟨RX8, "written", "()V"⟩
def dkwX8_written_1 : List UInt8 := [46, 42, 180, 0, 21, 27, 46, 100, 79, 132, 1, 1, 167, 255, 222, 42, 3, 181, 0, 37, 177]
abbrev dktX8_written_1 : List UInt8 := dkwX8_written_1 ++ []
def dkwX8_written_0 : List UInt8 := [3, 60, 27, 42, 180, 0, 37, 162, 0, 32, 42, 180, 0, 24, 180, 0, 74, 42, 180, 0, 17, 27, 46, 92]
abbrev dktX8_written_0 : List UInt8 := dkwX8_written_0 ++ dktX8_written_1
theorem dksX8_written_0 : cX8_written.data.toList.drop 0 = dktX8_written_0 := by decide +kernel
theorem dksX8_written_1 : cX8_written.data.toList.drop 24 = dktX8_written_1 := dk_seg dksX8_written_0 24 rfl rfl
theorem dX8_written_0 : decode cX8_written 0 = .ok (.iconst 0, 1) := dk_3 (dk_at dksX8_written_0 0 rfl rfl)
theorem dX8_written_1 : decode cX8_written 1 = .ok (.istore_n 1, 1) := dk_60 (dk_at dksX8_written_0 1 rfl rfl)
theorem dX8_written_2 : decode cX8_written 2 = .ok (.iload_n 1, 1) := dk_27 (dk_at dksX8_written_0 2 rfl rfl)
theorem dX8_written_3 : decode cX8_written 3 = .ok (.aload_n 0, 1) := dk_42 (dk_at dksX8_written_0 3 rfl rfl)
theorem dX8_written_4 : decode cX8_written 4 = .ok (.getfield 37, 3) := dk_180 0 37 (dk_at dksX8_written_0 4 rfl rfl)
theorem dX8_written_7 : decode cX8_written 7 = .ok (.if_icmp .ge 32, 3) := dk_162 0 32 (dk_at dksX8_written_0 7 rfl rfl)
theorem dX8_written_10 : decode cX8_written 10 = .ok (.aload_n 0, 1) := dk_42 (dk_at dksX8_written_0 10 rfl rfl)
theorem dX8_written_11 : decode cX8_written 11 = .ok (.getfield 24, 3) := dk_180 0 24 (dk_at dksX8_written_0 11 rfl rfl)
theorem dX8_written_14 : decode cX8_written 14 = .ok (.getfield 74, 3) := dk_180 0 74 (dk_at dksX8_written_0 14 rfl rfl)
theorem dX8_written_17 : decode cX8_written 17 = .ok (.aload_n 0, 1) := dk_42 (dk_at dksX8_written_0 17 rfl rfl)
theorem dX8_written_18 : decode cX8_written 18 = .ok (.getfield 17, 3) := dk_180 0 17 (dk_at dksX8_written_0 18 rfl rfl)
theorem dX8_written_21 : decode cX8_written 21 = .ok (.iload_n 1, 1) := dk_27 (dk_at dksX8_written_0 21 rfl rfl)
theorem dX8_written_22 : decode cX8_written 22 = .ok (.iaload, 1) := dk_46 (dk_at dksX8_written_0 22 rfl rfl)
theorem dX8_written_23 : decode cX8_written 23 = .ok (.dup2, 1) := dk_92 (dk_at dksX8_written_0 23 rfl rfl)
theorem dX8_written_24 : decode cX8_written 24 = .ok (.iaload, 1) := dk_46 (dk_at dksX8_written_1 0 rfl rfl)
theorem dX8_written_25 : decode cX8_written 25 = .ok (.aload_n 0, 1) := dk_42 (dk_at dksX8_written_1 1 rfl rfl)
theorem dX8_written_26 : decode cX8_written 26 = .ok (.getfield 21, 3) := dk_180 0 21 (dk_at dksX8_written_1 2 rfl rfl)
theorem dX8_written_29 : decode cX8_written 29 = .ok (.iload_n 1, 1) := dk_27 (dk_at dksX8_written_1 5 rfl rfl)
theorem dX8_written_30 : decode cX8_written 30 = .ok (.iaload, 1) := dk_46 (dk_at dksX8_written_1 6 rfl rfl)
theorem dX8_written_31 : decode cX8_written 31 = .ok (.isub, 1) := dk_100 (dk_at dksX8_written_1 7 rfl rfl)
theorem dX8_written_32 : decode cX8_written 32 = .ok (.iastore, 1) := dk_79 (dk_at dksX8_written_1 8 rfl rfl)
theorem dX8_written_33 : decode cX8_written 33 = .ok (.iinc 1 1, 3) := dk_132 1 1 (dk_at dksX8_written_1 9 rfl rfl)
theorem dX8_written_36 : decode cX8_written 36 = .ok (.goto (-34), 3) := dk_167 255 222 (dk_at dksX8_written_1 12 rfl rfl)
theorem dX8_written_39 : decode cX8_written 39 = .ok (.aload_n 0, 1) := dk_42 (dk_at dksX8_written_1 15 rfl rfl)
theorem dX8_written_40 : decode cX8_written 40 = .ok (.iconst 0, 1) := dk_3 (dk_at dksX8_written_1 16 rfl rfl)
theorem dX8_written_41 : decode cX8_written 41 = .ok (.putfield 37, 3) := dk_181 0 37 (dk_at dksX8_written_1 17 rfl rfl)
theorem dX8_written_44 : decode cX8_written 44 = .ok (.return_, 1) := dk_177 (dk_at dksX8_written_1 20 rfl rfl)
abbrev cX8_freshBytes : ByteArray := prog_4_method_21_code
def yX8_freshBytes : MethodName := ⟨RX8, "freshBytes", "(LNandHouse$Knot;)I"⟩
def dkwX8_freshBytes_2 : List UInt8 := [29, 50, 182, 0, 177, 96, 61, 132, 3, 1, 167, 255, 218, 28, 172]
abbrev dktX8_freshBytes_2 : List UInt8 := dkwX8_freshBytes_2 ++ []
def dkwX8_freshBytes_1 : List UInt8 := [153, 0, 37, 29, 43, 180, 0, 45, 162, 0, 29, 43, 180, 0, 48, 158, 0, 22, 28, 42, 43, 180, 0, 51]
abbrev dktX8_freshBytes_1 : List UInt8 := dkwX8_freshBytes_1 ++ dktX8_freshBytes_2
def dkwX8_freshBytes_0 : List UInt8 := [43, 180, 0, 64, 153, 0, 10, 43, 184, 0, 173, 167, 0, 4, 3, 61, 3, 62, 43, 180, 0, 64]
abbrev dktX8_freshBytes_0 : List UInt8 := dkwX8_freshBytes_0 ++ dktX8_freshBytes_1
theorem dksX8_freshBytes_0 : cX8_freshBytes.data.toList.drop 0 = dktX8_freshBytes_0 := by decide +kernel
theorem dksX8_freshBytes_1 : cX8_freshBytes.data.toList.drop 22 = dktX8_freshBytes_1 := dk_seg dksX8_freshBytes_0 22 rfl rfl
theorem dksX8_freshBytes_2 : cX8_freshBytes.data.toList.drop 46 = dktX8_freshBytes_2 := dk_seg dksX8_freshBytes_1 24 rfl rfl
theorem dX8_freshBytes_0 : decode cX8_freshBytes 0 = .ok (.aload_n 1, 1) := dk_43 (dk_at dksX8_freshBytes_0 0 rfl rfl)
theorem dX8_freshBytes_1 : decode cX8_freshBytes 1 = .ok (.getfield 64, 3) := dk_180 0 64 (dk_at dksX8_freshBytes_0 1 rfl rfl)
theorem dX8_freshBytes_4 : decode cX8_freshBytes 4 = .ok (.ifCond .eq 10, 3) := dk_153 0 10 (dk_at dksX8_freshBytes_0 4 rfl rfl)
theorem dX8_freshBytes_7 : decode cX8_freshBytes 7 = .ok (.aload_n 1, 1) := dk_43 (dk_at dksX8_freshBytes_0 7 rfl rfl)
theorem dX8_freshBytes_8 : decode cX8_freshBytes 8 = .ok (.invokestatic 173, 3) := dk_184 0 173 (dk_at dksX8_freshBytes_0 8 rfl rfl)
theorem dX8_freshBytes_11 : decode cX8_freshBytes 11 = .ok (.goto 4, 3) := dk_167 0 4 (dk_at dksX8_freshBytes_0 11 rfl rfl)
theorem dX8_freshBytes_14 : decode cX8_freshBytes 14 = .ok (.iconst 0, 1) := dk_3 (dk_at dksX8_freshBytes_0 14 rfl rfl)
theorem dX8_freshBytes_15 : decode cX8_freshBytes 15 = .ok (.istore_n 2, 1) := dk_61 (dk_at dksX8_freshBytes_0 15 rfl rfl)
theorem dX8_freshBytes_16 : decode cX8_freshBytes 16 = .ok (.iconst 0, 1) := dk_3 (dk_at dksX8_freshBytes_0 16 rfl rfl)
theorem dX8_freshBytes_17 : decode cX8_freshBytes 17 = .ok (.istore_n 3, 1) := dk_62 (dk_at dksX8_freshBytes_0 17 rfl rfl)
theorem dX8_freshBytes_18 : decode cX8_freshBytes 18 = .ok (.aload_n 1, 1) := dk_43 (dk_at dksX8_freshBytes_0 18 rfl rfl)
theorem dX8_freshBytes_19 : decode cX8_freshBytes 19 = .ok (.getfield 64, 3) := dk_180 0 64 (dk_at dksX8_freshBytes_0 19 rfl rfl)
theorem dX8_freshBytes_22 : decode cX8_freshBytes 22 = .ok (.ifCond .eq 37, 3) := dk_153 0 37 (dk_at dksX8_freshBytes_1 0 rfl rfl)
theorem dX8_freshBytes_25 : decode cX8_freshBytes 25 = .ok (.iload_n 3, 1) := dk_29 (dk_at dksX8_freshBytes_1 3 rfl rfl)
theorem dX8_freshBytes_26 : decode cX8_freshBytes 26 = .ok (.aload_n 1, 1) := dk_43 (dk_at dksX8_freshBytes_1 4 rfl rfl)
theorem dX8_freshBytes_27 : decode cX8_freshBytes 27 = .ok (.getfield 45, 3) := dk_180 0 45 (dk_at dksX8_freshBytes_1 5 rfl rfl)
theorem dX8_freshBytes_30 : decode cX8_freshBytes 30 = .ok (.if_icmp .ge 29, 3) := dk_162 0 29 (dk_at dksX8_freshBytes_1 8 rfl rfl)
theorem dX8_freshBytes_33 : decode cX8_freshBytes 33 = .ok (.aload_n 1, 1) := dk_43 (dk_at dksX8_freshBytes_1 11 rfl rfl)
theorem dX8_freshBytes_34 : decode cX8_freshBytes 34 = .ok (.getfield 48, 3) := dk_180 0 48 (dk_at dksX8_freshBytes_1 12 rfl rfl)
theorem dX8_freshBytes_37 : decode cX8_freshBytes 37 = .ok (.ifCond .le 22, 3) := dk_158 0 22 (dk_at dksX8_freshBytes_1 15 rfl rfl)
theorem dX8_freshBytes_40 : decode cX8_freshBytes 40 = .ok (.iload_n 2, 1) := dk_28 (dk_at dksX8_freshBytes_1 18 rfl rfl)
theorem dX8_freshBytes_41 : decode cX8_freshBytes 41 = .ok (.aload_n 0, 1) := dk_42 (dk_at dksX8_freshBytes_1 19 rfl rfl)
theorem dX8_freshBytes_42 : decode cX8_freshBytes 42 = .ok (.aload_n 1, 1) := dk_43 (dk_at dksX8_freshBytes_1 20 rfl rfl)
theorem dX8_freshBytes_43 : decode cX8_freshBytes 43 = .ok (.getfield 51, 3) := dk_180 0 51 (dk_at dksX8_freshBytes_1 21 rfl rfl)
theorem dX8_freshBytes_46 : decode cX8_freshBytes 46 = .ok (.iload_n 3, 1) := dk_29 (dk_at dksX8_freshBytes_2 0 rfl rfl)
theorem dX8_freshBytes_47 : decode cX8_freshBytes 47 = .ok (.aaload, 1) := dk_50 (dk_at dksX8_freshBytes_2 1 rfl rfl)
theorem dX8_freshBytes_48 : decode cX8_freshBytes 48 = .ok (.invokevirtual 177, 3) := dk_182 0 177 (dk_at dksX8_freshBytes_2 2 rfl rfl)
theorem dX8_freshBytes_51 : decode cX8_freshBytes 51 = .ok (.iadd, 1) := dk_96 (dk_at dksX8_freshBytes_2 5 rfl rfl)
theorem dX8_freshBytes_52 : decode cX8_freshBytes 52 = .ok (.istore_n 2, 1) := dk_61 (dk_at dksX8_freshBytes_2 6 rfl rfl)
theorem dX8_freshBytes_53 : decode cX8_freshBytes 53 = .ok (.iinc 3 1, 3) := dk_132 3 1 (dk_at dksX8_freshBytes_2 7 rfl rfl)
theorem dX8_freshBytes_56 : decode cX8_freshBytes 56 = .ok (.goto (-38), 3) := dk_167 255 218 (dk_at dksX8_freshBytes_2 10 rfl rfl)
theorem dX8_freshBytes_59 : decode cX8_freshBytes 59 = .ok (.iload_n 2, 1) := dk_28 (dk_at dksX8_freshBytes_2 13 rfl rfl)
theorem dX8_freshBytes_60 : decode cX8_freshBytes 60 = .ok (.ireturn, 1) := dk_172 (dk_at dksX8_freshBytes_2 14 rfl rfl)
abbrev cX8_stirAll : ByteArray := prog_4_method_22_code
def yX8_stirAll : MethodName := ⟨RX8, "stirAll", "(LNandHouse$Knot;)V"⟩
def dkwX8_stirAll_1 : List UInt8 := [180, 0, 51, 28, 50, 182, 0, 180, 132, 2, 1, 167, 255, 228, 177]
abbrev dktX8_stirAll_1 : List UInt8 := dkwX8_stirAll_1 ++ []
def dkwX8_stirAll_0 : List UInt8 := [42, 43, 182, 0, 61, 3, 61, 28, 43, 180, 0, 45, 162, 0, 26, 43, 180, 0, 48, 158, 0, 19, 42, 43]
abbrev dktX8_stirAll_0 : List UInt8 := dkwX8_stirAll_0 ++ dktX8_stirAll_1
theorem dksX8_stirAll_0 : cX8_stirAll.data.toList.drop 0 = dktX8_stirAll_0 := by decide +kernel
theorem dksX8_stirAll_1 : cX8_stirAll.data.toList.drop 24 = dktX8_stirAll_1 := dk_seg dksX8_stirAll_0 24 rfl rfl
theorem dX8_stirAll_0 : decode cX8_stirAll 0 = .ok (.aload_n 0, 1) := dk_42 (dk_at dksX8_stirAll_0 0 rfl rfl)
theorem dX8_stirAll_1 : decode cX8_stirAll 1 = .ok (.aload_n 1, 1) := dk_43 (dk_at dksX8_stirAll_0 1 rfl rfl)
theorem dX8_stirAll_2 : decode cX8_stirAll 2 = .ok (.invokevirtual 61, 3) := dk_182 0 61 (dk_at dksX8_stirAll_0 2 rfl rfl)
theorem dX8_stirAll_5 : decode cX8_stirAll 5 = .ok (.iconst 0, 1) := dk_3 (dk_at dksX8_stirAll_0 5 rfl rfl)
theorem dX8_stirAll_6 : decode cX8_stirAll 6 = .ok (.istore_n 2, 1) := dk_61 (dk_at dksX8_stirAll_0 6 rfl rfl)
theorem dX8_stirAll_7 : decode cX8_stirAll 7 = .ok (.iload_n 2, 1) := dk_28 (dk_at dksX8_stirAll_0 7 rfl rfl)
theorem dX8_stirAll_8 : decode cX8_stirAll 8 = .ok (.aload_n 1, 1) := dk_43 (dk_at dksX8_stirAll_0 8 rfl rfl)
theorem dX8_stirAll_9 : decode cX8_stirAll 9 = .ok (.getfield 45, 3) := dk_180 0 45 (dk_at dksX8_stirAll_0 9 rfl rfl)
theorem dX8_stirAll_12 : decode cX8_stirAll 12 = .ok (.if_icmp .ge 26, 3) := dk_162 0 26 (dk_at dksX8_stirAll_0 12 rfl rfl)
theorem dX8_stirAll_15 : decode cX8_stirAll 15 = .ok (.aload_n 1, 1) := dk_43 (dk_at dksX8_stirAll_0 15 rfl rfl)
theorem dX8_stirAll_16 : decode cX8_stirAll 16 = .ok (.getfield 48, 3) := dk_180 0 48 (dk_at dksX8_stirAll_0 16 rfl rfl)
theorem dX8_stirAll_19 : decode cX8_stirAll 19 = .ok (.ifCond .le 19, 3) := dk_158 0 19 (dk_at dksX8_stirAll_0 19 rfl rfl)
theorem dX8_stirAll_22 : decode cX8_stirAll 22 = .ok (.aload_n 0, 1) := dk_42 (dk_at dksX8_stirAll_0 22 rfl rfl)
theorem dX8_stirAll_23 : decode cX8_stirAll 23 = .ok (.aload_n 1, 1) := dk_43 (dk_at dksX8_stirAll_0 23 rfl rfl)
theorem dX8_stirAll_24 : decode cX8_stirAll 24 = .ok (.getfield 51, 3) := dk_180 0 51 (dk_at dksX8_stirAll_1 0 rfl rfl)
theorem dX8_stirAll_27 : decode cX8_stirAll 27 = .ok (.iload_n 2, 1) := dk_28 (dk_at dksX8_stirAll_1 3 rfl rfl)
theorem dX8_stirAll_28 : decode cX8_stirAll 28 = .ok (.aaload, 1) := dk_50 (dk_at dksX8_stirAll_1 4 rfl rfl)
theorem dX8_stirAll_29 : decode cX8_stirAll 29 = .ok (.invokevirtual 180, 3) := dk_182 0 180 (dk_at dksX8_stirAll_1 5 rfl rfl)
theorem dX8_stirAll_32 : decode cX8_stirAll 32 = .ok (.iinc 2 1, 3) := dk_132 2 1 (dk_at dksX8_stirAll_1 8 rfl rfl)
theorem dX8_stirAll_35 : decode cX8_stirAll 35 = .ok (.goto (-28), 3) := dk_167 255 228 (dk_at dksX8_stirAll_1 11 rfl rfl)
theorem dX8_stirAll_38 : decode cX8_stirAll 38 = .ok (.return_, 1) := dk_177 (dk_at dksX8_stirAll_1 14 rfl rfl)
abbrev cX8_next : ByteArray := prog_4_method_11_code
def yX8_next : MethodName := ⟨RX8, "next", "()Z"⟩
def dkwX8_next_1 : List UInt8 := [167, 0, 17, 42, 42, 180, 0, 102, 42, 180, 0, 105, 10, 97, 182, 0, 122, 172]
abbrev dktX8_next_1 : List UInt8 := dkwX8_next_1 ++ []
def dkwX8_next_0 : List UInt8 := [42, 180, 0, 105, 20, 0, 126, 148, 154, 0, 17, 42, 42, 180, 0, 102, 10, 97, 9, 182, 0, 122]
abbrev dktX8_next_0 : List UInt8 := dkwX8_next_0 ++ dktX8_next_1
theorem dksX8_next_0 : cX8_next.data.toList.drop 0 = dktX8_next_0 := by decide +kernel
theorem dksX8_next_1 : cX8_next.data.toList.drop 22 = dktX8_next_1 := dk_seg dksX8_next_0 22 rfl rfl
theorem dX8_next_0 : decode cX8_next 0 = .ok (.aload_n 0, 1) := dk_42 (dk_at dksX8_next_0 0 rfl rfl)
theorem dX8_next_1 : decode cX8_next 1 = .ok (.getfield 105, 3) := dk_180 0 105 (dk_at dksX8_next_0 1 rfl rfl)
theorem dX8_next_4 : decode cX8_next 4 = .ok (.ldc2_w 126, 3) := dk_20 0 126 (dk_at dksX8_next_0 4 rfl rfl)
theorem dX8_next_7 : decode cX8_next 7 = .ok (.lcmp, 1) := dk_148 (dk_at dksX8_next_0 7 rfl rfl)
theorem dX8_next_8 : decode cX8_next 8 = .ok (.ifCond .ne 17, 3) := dk_154 0 17 (dk_at dksX8_next_0 8 rfl rfl)
theorem dX8_next_11 : decode cX8_next 11 = .ok (.aload_n 0, 1) := dk_42 (dk_at dksX8_next_0 11 rfl rfl)
theorem dX8_next_12 : decode cX8_next 12 = .ok (.aload_n 0, 1) := dk_42 (dk_at dksX8_next_0 12 rfl rfl)
theorem dX8_next_13 : decode cX8_next 13 = .ok (.getfield 102, 3) := dk_180 0 102 (dk_at dksX8_next_0 13 rfl rfl)
theorem dX8_next_16 : decode cX8_next 16 = .ok (.lconst 1, 1) := dk_10 (dk_at dksX8_next_0 16 rfl rfl)
theorem dX8_next_17 : decode cX8_next 17 = .ok (.ladd, 1) := dk_97 (dk_at dksX8_next_0 17 rfl rfl)
theorem dX8_next_18 : decode cX8_next 18 = .ok (.lconst 0, 1) := dk_9 (dk_at dksX8_next_0 18 rfl rfl)
theorem dX8_next_19 : decode cX8_next 19 = .ok (.invokevirtual 122, 3) := dk_182 0 122 (dk_at dksX8_next_0 19 rfl rfl)
theorem dX8_next_22 : decode cX8_next 22 = .ok (.goto 17, 3) := dk_167 0 17 (dk_at dksX8_next_1 0 rfl rfl)
theorem dX8_next_25 : decode cX8_next 25 = .ok (.aload_n 0, 1) := dk_42 (dk_at dksX8_next_1 3 rfl rfl)
theorem dX8_next_26 : decode cX8_next 26 = .ok (.aload_n 0, 1) := dk_42 (dk_at dksX8_next_1 4 rfl rfl)
theorem dX8_next_27 : decode cX8_next 27 = .ok (.getfield 102, 3) := dk_180 0 102 (dk_at dksX8_next_1 5 rfl rfl)
theorem dX8_next_30 : decode cX8_next 30 = .ok (.aload_n 0, 1) := dk_42 (dk_at dksX8_next_1 8 rfl rfl)
theorem dX8_next_31 : decode cX8_next 31 = .ok (.getfield 105, 3) := dk_180 0 105 (dk_at dksX8_next_1 9 rfl rfl)
theorem dX8_next_34 : decode cX8_next 34 = .ok (.lconst 1, 1) := dk_10 (dk_at dksX8_next_1 12 rfl rfl)
theorem dX8_next_35 : decode cX8_next 35 = .ok (.ladd, 1) := dk_97 (dk_at dksX8_next_1 13 rfl rfl)
theorem dX8_next_36 : decode cX8_next 36 = .ok (.invokevirtual 122, 3) := dk_182 0 122 (dk_at dksX8_next_1 14 rfl rfl)
theorem dX8_next_39 : decode cX8_next 39 = .ok (.ireturn, 1) := dk_172 (dk_at dksX8_next_1 17 rfl rfl)
abbrev cX8_stir : ByteArray := prog_4_method_20_code
def yX8_stir : MethodName := ⟨RX8, "stir", "(IJJII)V"⟩
def dkwX8_stir_5 : List UInt8 := [25, 9, 182, 0, 61, 167, 255, 221, 177]
abbrev dktX8_stir_5 : List UInt8 := dkwX8_stir_5 ++ []
def dkwX8_stir_4 : List UInt8 := [164, 0, 32, 25, 9, 180, 0, 51, 3, 25, 9, 32, 22, 4, 182, 0, 79, 184, 0, 83, 50, 58, 9, 42]
abbrev dktX8_stir_4 : List UInt8 := dkwX8_stir_4 ++ dktX8_stir_5
def dkwX8_stir_3 : List UInt8 := [21, 7, 159, 0, 4, 177, 42, 180, 0, 29, 58, 9, 42, 25, 9, 182, 0, 61, 25, 9, 180, 0, 48, 27]
abbrev dktX8_stir_3 : List UInt8 := dkwX8_stir_3 ++ dktX8_stir_4
def dkwX8_stir_2 : List UInt8 := [25, 8, 180, 0, 64, 154, 0, 23, 25, 8, 180, 0, 68, 21, 6, 160, 0, 13, 25, 8, 180, 0, 170]
abbrev dktX8_stir_2 : List UInt8 := dkwX8_stir_2 ++ dktX8_stir_3
def dkwX8_stir_1 : List UInt8 := [22, 4, 182, 0, 79, 184, 0, 83, 50, 58, 8, 167, 255, 227, 25, 8, 180, 0, 48, 27, 160, 0, 31]
abbrev dktX8_stir_1 : List UInt8 := dkwX8_stir_1 ++ dktX8_stir_2
def dkwX8_stir_0 : List UInt8 := [42, 180, 0, 29, 58, 8, 25, 8, 180, 0, 48, 27, 164, 0, 26, 25, 8, 180, 0, 51, 3, 25, 8, 32]
abbrev dktX8_stir_0 : List UInt8 := dkwX8_stir_0 ++ dktX8_stir_1
theorem dksX8_stir_0 : cX8_stir.data.toList.drop 0 = dktX8_stir_0 := by decide +kernel
theorem dksX8_stir_1 : cX8_stir.data.toList.drop 24 = dktX8_stir_1 := dk_seg dksX8_stir_0 24 rfl rfl
theorem dksX8_stir_2 : cX8_stir.data.toList.drop 47 = dktX8_stir_2 := dk_seg dksX8_stir_1 23 rfl rfl
theorem dksX8_stir_3 : cX8_stir.data.toList.drop 70 = dktX8_stir_3 := dk_seg dksX8_stir_2 23 rfl rfl
theorem dksX8_stir_4 : cX8_stir.data.toList.drop 94 = dktX8_stir_4 := dk_seg dksX8_stir_3 24 rfl rfl
theorem dksX8_stir_5 : cX8_stir.data.toList.drop 118 = dktX8_stir_5 := dk_seg dksX8_stir_4 24 rfl rfl
theorem dX8_stir_0 : decode cX8_stir 0 = .ok (.aload_n 0, 1) := dk_42 (dk_at dksX8_stir_0 0 rfl rfl)
theorem dX8_stir_1 : decode cX8_stir 1 = .ok (.getfield 29, 3) := dk_180 0 29 (dk_at dksX8_stir_0 1 rfl rfl)
theorem dX8_stir_4 : decode cX8_stir 4 = .ok (.astore 8, 2) := dk_58 8 (dk_at dksX8_stir_0 4 rfl rfl)
theorem dX8_stir_6 : decode cX8_stir 6 = .ok (.aload 8, 2) := dk_25 8 (dk_at dksX8_stir_0 6 rfl rfl)
theorem dX8_stir_8 : decode cX8_stir 8 = .ok (.getfield 48, 3) := dk_180 0 48 (dk_at dksX8_stir_0 8 rfl rfl)
theorem dX8_stir_11 : decode cX8_stir 11 = .ok (.iload_n 1, 1) := dk_27 (dk_at dksX8_stir_0 11 rfl rfl)
theorem dX8_stir_12 : decode cX8_stir 12 = .ok (.if_icmp .le 26, 3) := dk_164 0 26 (dk_at dksX8_stir_0 12 rfl rfl)
theorem dX8_stir_15 : decode cX8_stir 15 = .ok (.aload 8, 2) := dk_25 8 (dk_at dksX8_stir_0 15 rfl rfl)
theorem dX8_stir_17 : decode cX8_stir 17 = .ok (.getfield 51, 3) := dk_180 0 51 (dk_at dksX8_stir_0 17 rfl rfl)
theorem dX8_stir_20 : decode cX8_stir 20 = .ok (.iconst 0, 1) := dk_3 (dk_at dksX8_stir_0 20 rfl rfl)
theorem dX8_stir_21 : decode cX8_stir 21 = .ok (.aload 8, 2) := dk_25 8 (dk_at dksX8_stir_0 21 rfl rfl)
theorem dX8_stir_23 : decode cX8_stir 23 = .ok (.lload_n 2, 1) := dk_32 (dk_at dksX8_stir_0 23 rfl rfl)
theorem dX8_stir_24 : decode cX8_stir 24 = .ok (.lload 4, 2) := dk_22 4 (dk_at dksX8_stir_1 0 rfl rfl)
theorem dX8_stir_26 : decode cX8_stir 26 = .ok (.invokevirtual 79, 3) := dk_182 0 79 (dk_at dksX8_stir_1 2 rfl rfl)
theorem dX8_stir_29 : decode cX8_stir 29 = .ok (.invokestatic 83, 3) := dk_184 0 83 (dk_at dksX8_stir_1 5 rfl rfl)
theorem dX8_stir_32 : decode cX8_stir 32 = .ok (.aaload, 1) := dk_50 (dk_at dksX8_stir_1 8 rfl rfl)
theorem dX8_stir_33 : decode cX8_stir 33 = .ok (.astore 8, 2) := dk_58 8 (dk_at dksX8_stir_1 9 rfl rfl)
theorem dX8_stir_35 : decode cX8_stir 35 = .ok (.goto (-29), 3) := dk_167 255 227 (dk_at dksX8_stir_1 11 rfl rfl)
theorem dX8_stir_38 : decode cX8_stir 38 = .ok (.aload 8, 2) := dk_25 8 (dk_at dksX8_stir_1 14 rfl rfl)
theorem dX8_stir_40 : decode cX8_stir 40 = .ok (.getfield 48, 3) := dk_180 0 48 (dk_at dksX8_stir_1 16 rfl rfl)
theorem dX8_stir_43 : decode cX8_stir 43 = .ok (.iload_n 1, 1) := dk_27 (dk_at dksX8_stir_1 19 rfl rfl)
theorem dX8_stir_44 : decode cX8_stir 44 = .ok (.if_icmp .ne 31, 3) := dk_160 0 31 (dk_at dksX8_stir_1 20 rfl rfl)
theorem dX8_stir_47 : decode cX8_stir 47 = .ok (.aload 8, 2) := dk_25 8 (dk_at dksX8_stir_2 0 rfl rfl)
theorem dX8_stir_49 : decode cX8_stir 49 = .ok (.getfield 64, 3) := dk_180 0 64 (dk_at dksX8_stir_2 2 rfl rfl)
theorem dX8_stir_52 : decode cX8_stir 52 = .ok (.ifCond .ne 23, 3) := dk_154 0 23 (dk_at dksX8_stir_2 5 rfl rfl)
theorem dX8_stir_55 : decode cX8_stir 55 = .ok (.aload 8, 2) := dk_25 8 (dk_at dksX8_stir_2 8 rfl rfl)
theorem dX8_stir_57 : decode cX8_stir 57 = .ok (.getfield 68, 3) := dk_180 0 68 (dk_at dksX8_stir_2 10 rfl rfl)
theorem dX8_stir_60 : decode cX8_stir 60 = .ok (.iload 6, 2) := dk_21 6 (dk_at dksX8_stir_2 13 rfl rfl)
theorem dX8_stir_62 : decode cX8_stir 62 = .ok (.if_icmp .ne 13, 3) := dk_160 0 13 (dk_at dksX8_stir_2 15 rfl rfl)
theorem dX8_stir_65 : decode cX8_stir 65 = .ok (.aload 8, 2) := dk_25 8 (dk_at dksX8_stir_2 18 rfl rfl)
theorem dX8_stir_67 : decode cX8_stir 67 = .ok (.getfield 170, 3) := dk_180 0 170 (dk_at dksX8_stir_2 20 rfl rfl)
theorem dX8_stir_70 : decode cX8_stir 70 = .ok (.iload 7, 2) := dk_21 7 (dk_at dksX8_stir_3 0 rfl rfl)
theorem dX8_stir_72 : decode cX8_stir 72 = .ok (.if_icmp .eq 4, 3) := dk_159 0 4 (dk_at dksX8_stir_3 2 rfl rfl)
theorem dX8_stir_75 : decode cX8_stir 75 = .ok (.return_, 1) := dk_177 (dk_at dksX8_stir_3 5 rfl rfl)
theorem dX8_stir_76 : decode cX8_stir 76 = .ok (.aload_n 0, 1) := dk_42 (dk_at dksX8_stir_3 6 rfl rfl)
theorem dX8_stir_77 : decode cX8_stir 77 = .ok (.getfield 29, 3) := dk_180 0 29 (dk_at dksX8_stir_3 7 rfl rfl)
theorem dX8_stir_80 : decode cX8_stir 80 = .ok (.astore 9, 2) := dk_58 9 (dk_at dksX8_stir_3 10 rfl rfl)
theorem dX8_stir_82 : decode cX8_stir 82 = .ok (.aload_n 0, 1) := dk_42 (dk_at dksX8_stir_3 12 rfl rfl)
theorem dX8_stir_83 : decode cX8_stir 83 = .ok (.aload 9, 2) := dk_25 9 (dk_at dksX8_stir_3 13 rfl rfl)
theorem dX8_stir_85 : decode cX8_stir 85 = .ok (.invokevirtual 61, 3) := dk_182 0 61 (dk_at dksX8_stir_3 15 rfl rfl)
theorem dX8_stir_88 : decode cX8_stir 88 = .ok (.aload 9, 2) := dk_25 9 (dk_at dksX8_stir_3 18 rfl rfl)
theorem dX8_stir_90 : decode cX8_stir 90 = .ok (.getfield 48, 3) := dk_180 0 48 (dk_at dksX8_stir_3 20 rfl rfl)
theorem dX8_stir_93 : decode cX8_stir 93 = .ok (.iload_n 1, 1) := dk_27 (dk_at dksX8_stir_3 23 rfl rfl)
theorem dX8_stir_94 : decode cX8_stir 94 = .ok (.if_icmp .le 32, 3) := dk_164 0 32 (dk_at dksX8_stir_4 0 rfl rfl)
theorem dX8_stir_97 : decode cX8_stir 97 = .ok (.aload 9, 2) := dk_25 9 (dk_at dksX8_stir_4 3 rfl rfl)
theorem dX8_stir_99 : decode cX8_stir 99 = .ok (.getfield 51, 3) := dk_180 0 51 (dk_at dksX8_stir_4 5 rfl rfl)
theorem dX8_stir_102 : decode cX8_stir 102 = .ok (.iconst 0, 1) := dk_3 (dk_at dksX8_stir_4 8 rfl rfl)
theorem dX8_stir_103 : decode cX8_stir 103 = .ok (.aload 9, 2) := dk_25 9 (dk_at dksX8_stir_4 9 rfl rfl)
theorem dX8_stir_105 : decode cX8_stir 105 = .ok (.lload_n 2, 1) := dk_32 (dk_at dksX8_stir_4 11 rfl rfl)
theorem dX8_stir_106 : decode cX8_stir 106 = .ok (.lload 4, 2) := dk_22 4 (dk_at dksX8_stir_4 12 rfl rfl)
theorem dX8_stir_108 : decode cX8_stir 108 = .ok (.invokevirtual 79, 3) := dk_182 0 79 (dk_at dksX8_stir_4 14 rfl rfl)
theorem dX8_stir_111 : decode cX8_stir 111 = .ok (.invokestatic 83, 3) := dk_184 0 83 (dk_at dksX8_stir_4 17 rfl rfl)
theorem dX8_stir_114 : decode cX8_stir 114 = .ok (.aaload, 1) := dk_50 (dk_at dksX8_stir_4 20 rfl rfl)
theorem dX8_stir_115 : decode cX8_stir 115 = .ok (.astore 9, 2) := dk_58 9 (dk_at dksX8_stir_4 21 rfl rfl)
theorem dX8_stir_117 : decode cX8_stir 117 = .ok (.aload_n 0, 1) := dk_42 (dk_at dksX8_stir_4 23 rfl rfl)
theorem dX8_stir_118 : decode cX8_stir 118 = .ok (.aload 9, 2) := dk_25 9 (dk_at dksX8_stir_5 0 rfl rfl)
theorem dX8_stir_120 : decode cX8_stir 120 = .ok (.invokevirtual 61, 3) := dk_182 0 61 (dk_at dksX8_stir_5 2 rfl rfl)
theorem dX8_stir_123 : decode cX8_stir 123 = .ok (.goto (-35), 3) := dk_167 255 221 (dk_at dksX8_stir_5 5 rfl rfl)
theorem dX8_stir_126 : decode cX8_stir 126 = .ok (.return_, 1) := dk_177 (dk_at dksX8_stir_5 8 rfl rfl)
abbrev cX8_remove : ByteArray := prog_4_method_17_code
def yX8_remove : MethodName := ⟨RX8, "remove", "(JJ)V"⟩
def dkwX8_remove_3 : List UInt8 := [180, 0, 51, 3, 50, 181, 0, 29, 42, 25, 5, 182, 0, 160, 167, 255, 212, 177]
abbrev dktX8_remove_3 : List UInt8 := dkwX8_remove_3 ++ []
def dkwX8_remove_2 : List UInt8 := [158, 0, 40, 42, 180, 0, 29, 180, 0, 45, 4, 160, 0, 29, 42, 180, 0, 29, 58, 5, 42, 25, 5]
abbrev dktX8_remove_2 : List UInt8 := dkwX8_remove_2 ++ dktX8_remove_3
def dkwX8_remove_1 : List UInt8 := [180, 0, 120, 100, 79, 42, 42, 180, 0, 29, 31, 33, 182, 0, 157, 42, 180, 0, 29, 180, 0, 48]
abbrev dktX8_remove_1 : List UInt8 := dkwX8_remove_1 ++ dktX8_remove_2
def dkwX8_remove_0 : List UInt8 := [42, 31, 33, 182, 0, 128, 154, 0, 4, 177, 42, 180, 0, 24, 180, 0, 74, 42, 180, 0, 110, 92, 46, 42]
abbrev dktX8_remove_0 : List UInt8 := dkwX8_remove_0 ++ dktX8_remove_1
theorem dksX8_remove_0 : cX8_remove.data.toList.drop 0 = dktX8_remove_0 := by decide +kernel
theorem dksX8_remove_1 : cX8_remove.data.toList.drop 24 = dktX8_remove_1 := dk_seg dksX8_remove_0 24 rfl rfl
theorem dksX8_remove_2 : cX8_remove.data.toList.drop 46 = dktX8_remove_2 := dk_seg dksX8_remove_1 22 rfl rfl
theorem dksX8_remove_3 : cX8_remove.data.toList.drop 69 = dktX8_remove_3 := dk_seg dksX8_remove_2 23 rfl rfl
theorem dX8_remove_0 : decode cX8_remove 0 = .ok (.aload_n 0, 1) := dk_42 (dk_at dksX8_remove_0 0 rfl rfl)
theorem dX8_remove_1 : decode cX8_remove 1 = .ok (.lload_n 1, 1) := dk_31 (dk_at dksX8_remove_0 1 rfl rfl)
theorem dX8_remove_2 : decode cX8_remove 2 = .ok (.lload_n 3, 1) := dk_33 (dk_at dksX8_remove_0 2 rfl rfl)
theorem dX8_remove_3 : decode cX8_remove 3 = .ok (.invokevirtual 128, 3) := dk_182 0 128 (dk_at dksX8_remove_0 3 rfl rfl)
theorem dX8_remove_6 : decode cX8_remove 6 = .ok (.ifCond .ne 4, 3) := dk_154 0 4 (dk_at dksX8_remove_0 6 rfl rfl)
theorem dX8_remove_9 : decode cX8_remove 9 = .ok (.return_, 1) := dk_177 (dk_at dksX8_remove_0 9 rfl rfl)
theorem dX8_remove_10 : decode cX8_remove 10 = .ok (.aload_n 0, 1) := dk_42 (dk_at dksX8_remove_0 10 rfl rfl)
theorem dX8_remove_11 : decode cX8_remove 11 = .ok (.getfield 24, 3) := dk_180 0 24 (dk_at dksX8_remove_0 11 rfl rfl)
theorem dX8_remove_14 : decode cX8_remove 14 = .ok (.getfield 74, 3) := dk_180 0 74 (dk_at dksX8_remove_0 14 rfl rfl)
theorem dX8_remove_17 : decode cX8_remove 17 = .ok (.aload_n 0, 1) := dk_42 (dk_at dksX8_remove_0 17 rfl rfl)
theorem dX8_remove_18 : decode cX8_remove 18 = .ok (.getfield 110, 3) := dk_180 0 110 (dk_at dksX8_remove_0 18 rfl rfl)
theorem dX8_remove_21 : decode cX8_remove 21 = .ok (.dup2, 1) := dk_92 (dk_at dksX8_remove_0 21 rfl rfl)
theorem dX8_remove_22 : decode cX8_remove 22 = .ok (.iaload, 1) := dk_46 (dk_at dksX8_remove_0 22 rfl rfl)
theorem dX8_remove_23 : decode cX8_remove 23 = .ok (.aload_n 0, 1) := dk_42 (dk_at dksX8_remove_0 23 rfl rfl)
theorem dX8_remove_24 : decode cX8_remove 24 = .ok (.getfield 120, 3) := dk_180 0 120 (dk_at dksX8_remove_1 0 rfl rfl)
theorem dX8_remove_27 : decode cX8_remove 27 = .ok (.isub, 1) := dk_100 (dk_at dksX8_remove_1 3 rfl rfl)
theorem dX8_remove_28 : decode cX8_remove 28 = .ok (.iastore, 1) := dk_79 (dk_at dksX8_remove_1 4 rfl rfl)
theorem dX8_remove_29 : decode cX8_remove 29 = .ok (.aload_n 0, 1) := dk_42 (dk_at dksX8_remove_1 5 rfl rfl)
theorem dX8_remove_30 : decode cX8_remove 30 = .ok (.aload_n 0, 1) := dk_42 (dk_at dksX8_remove_1 6 rfl rfl)
theorem dX8_remove_31 : decode cX8_remove 31 = .ok (.getfield 29, 3) := dk_180 0 29 (dk_at dksX8_remove_1 7 rfl rfl)
theorem dX8_remove_34 : decode cX8_remove 34 = .ok (.lload_n 1, 1) := dk_31 (dk_at dksX8_remove_1 10 rfl rfl)
theorem dX8_remove_35 : decode cX8_remove 35 = .ok (.lload_n 3, 1) := dk_33 (dk_at dksX8_remove_1 11 rfl rfl)
theorem dX8_remove_36 : decode cX8_remove 36 = .ok (.invokevirtual 157, 3) := dk_182 0 157 (dk_at dksX8_remove_1 12 rfl rfl)
theorem dX8_remove_39 : decode cX8_remove 39 = .ok (.aload_n 0, 1) := dk_42 (dk_at dksX8_remove_1 15 rfl rfl)
theorem dX8_remove_40 : decode cX8_remove 40 = .ok (.getfield 29, 3) := dk_180 0 29 (dk_at dksX8_remove_1 16 rfl rfl)
theorem dX8_remove_43 : decode cX8_remove 43 = .ok (.getfield 48, 3) := dk_180 0 48 (dk_at dksX8_remove_1 19 rfl rfl)
theorem dX8_remove_46 : decode cX8_remove 46 = .ok (.ifCond .le 40, 3) := dk_158 0 40 (dk_at dksX8_remove_2 0 rfl rfl)
theorem dX8_remove_49 : decode cX8_remove 49 = .ok (.aload_n 0, 1) := dk_42 (dk_at dksX8_remove_2 3 rfl rfl)
theorem dX8_remove_50 : decode cX8_remove 50 = .ok (.getfield 29, 3) := dk_180 0 29 (dk_at dksX8_remove_2 4 rfl rfl)
theorem dX8_remove_53 : decode cX8_remove 53 = .ok (.getfield 45, 3) := dk_180 0 45 (dk_at dksX8_remove_2 7 rfl rfl)
theorem dX8_remove_56 : decode cX8_remove 56 = .ok (.iconst 1, 1) := dk_4 (dk_at dksX8_remove_2 10 rfl rfl)
theorem dX8_remove_57 : decode cX8_remove 57 = .ok (.if_icmp .ne 29, 3) := dk_160 0 29 (dk_at dksX8_remove_2 11 rfl rfl)
theorem dX8_remove_60 : decode cX8_remove 60 = .ok (.aload_n 0, 1) := dk_42 (dk_at dksX8_remove_2 14 rfl rfl)
theorem dX8_remove_61 : decode cX8_remove 61 = .ok (.getfield 29, 3) := dk_180 0 29 (dk_at dksX8_remove_2 15 rfl rfl)
theorem dX8_remove_64 : decode cX8_remove 64 = .ok (.astore 5, 2) := dk_58 5 (dk_at dksX8_remove_2 18 rfl rfl)
theorem dX8_remove_66 : decode cX8_remove 66 = .ok (.aload_n 0, 1) := dk_42 (dk_at dksX8_remove_2 20 rfl rfl)
theorem dX8_remove_67 : decode cX8_remove 67 = .ok (.aload 5, 2) := dk_25 5 (dk_at dksX8_remove_2 21 rfl rfl)
theorem dX8_remove_69 : decode cX8_remove 69 = .ok (.getfield 51, 3) := dk_180 0 51 (dk_at dksX8_remove_3 0 rfl rfl)
theorem dX8_remove_72 : decode cX8_remove 72 = .ok (.iconst 0, 1) := dk_3 (dk_at dksX8_remove_3 3 rfl rfl)
theorem dX8_remove_73 : decode cX8_remove 73 = .ok (.aaload, 1) := dk_50 (dk_at dksX8_remove_3 4 rfl rfl)
theorem dX8_remove_74 : decode cX8_remove 74 = .ok (.putfield 29, 3) := dk_181 0 29 (dk_at dksX8_remove_3 5 rfl rfl)
theorem dX8_remove_77 : decode cX8_remove 77 = .ok (.aload_n 0, 1) := dk_42 (dk_at dksX8_remove_3 8 rfl rfl)
theorem dX8_remove_78 : decode cX8_remove 78 = .ok (.aload 5, 2) := dk_25 5 (dk_at dksX8_remove_3 9 rfl rfl)
theorem dX8_remove_80 : decode cX8_remove 80 = .ok (.invokevirtual 160, 3) := dk_182 0 160 (dk_at dksX8_remove_3 11 rfl rfl)
theorem dX8_remove_83 : decode cX8_remove 83 = .ok (.goto (-44), 3) := dk_167 255 212 (dk_at dksX8_remove_3 14 rfl rfl)
theorem dX8_remove_86 : decode cX8_remove 86 = .ok (.return_, 1) := dk_177 (dk_at dksX8_remove_3 17 rfl rfl)
abbrev cX8_take : ByteArray := prog_4_method_18_code
def yX8_take : MethodName := ⟨RX8, "take", "(LNandHouse$Knot;JJ)V"⟩
def dkwX8_take_5 : List UInt8 := [182, 0, 166, 177]
abbrev dktX8_take_5 : List UInt8 := dkwX8_take_5 ++ []
def dkwX8_take_4 : List UInt8 := [180, 0, 45, 4, 164, 0, 21, 42, 43, 21, 6, 154, 0, 7, 3, 167, 0, 7, 21, 6, 4, 100]
abbrev dktX8_take_4 : List UInt8 := dkwX8_take_4 ++ dktX8_take_5
def dkwX8_take_3 : List UInt8 := [25, 7, 180, 0, 93, 3, 47, 25, 7, 182, 0, 142, 25, 7, 180, 0, 45, 7, 162, 0, 29, 43]
abbrev dktX8_take_3 : List UInt8 := dkwX8_take_3 ++ dktX8_take_4
def dkwX8_take_2 : List UInt8 := [22, 4, 182, 0, 157, 25, 7, 180, 0, 45, 158, 0, 25, 43, 21, 6, 25, 7, 180, 0, 89, 3, 47]
abbrev dktX8_take_2 : List UInt8 := dkwX8_take_2 ++ dktX8_take_3
def dkwX8_take_1 : List UInt8 := [154, 0, 10, 43, 21, 6, 182, 0, 163, 177, 43, 180, 0, 51, 21, 6, 50, 58, 7, 42, 25, 7, 32]
abbrev dktX8_take_1 : List UInt8 := dkwX8_take_1 ++ dktX8_take_2
def dkwX8_take_0 : List UInt8 := [42, 43, 182, 0, 61, 3, 43, 32, 22, 4, 182, 0, 79, 184, 0, 83, 54, 6, 43, 180, 0, 48]
abbrev dktX8_take_0 : List UInt8 := dkwX8_take_0 ++ dktX8_take_1
theorem dksX8_take_0 : cX8_take.data.toList.drop 0 = dktX8_take_0 := by decide +kernel
theorem dksX8_take_1 : cX8_take.data.toList.drop 22 = dktX8_take_1 := dk_seg dksX8_take_0 22 rfl rfl
theorem dksX8_take_2 : cX8_take.data.toList.drop 45 = dktX8_take_2 := dk_seg dksX8_take_1 23 rfl rfl
theorem dksX8_take_3 : cX8_take.data.toList.drop 68 = dktX8_take_3 := dk_seg dksX8_take_2 23 rfl rfl
theorem dksX8_take_4 : cX8_take.data.toList.drop 90 = dktX8_take_4 := dk_seg dksX8_take_3 22 rfl rfl
theorem dksX8_take_5 : cX8_take.data.toList.drop 112 = dktX8_take_5 := dk_seg dksX8_take_4 22 rfl rfl
theorem dX8_take_0 : decode cX8_take 0 = .ok (.aload_n 0, 1) := dk_42 (dk_at dksX8_take_0 0 rfl rfl)
theorem dX8_take_1 : decode cX8_take 1 = .ok (.aload_n 1, 1) := dk_43 (dk_at dksX8_take_0 1 rfl rfl)
theorem dX8_take_2 : decode cX8_take 2 = .ok (.invokevirtual 61, 3) := dk_182 0 61 (dk_at dksX8_take_0 2 rfl rfl)
theorem dX8_take_5 : decode cX8_take 5 = .ok (.iconst 0, 1) := dk_3 (dk_at dksX8_take_0 5 rfl rfl)
theorem dX8_take_6 : decode cX8_take 6 = .ok (.aload_n 1, 1) := dk_43 (dk_at dksX8_take_0 6 rfl rfl)
theorem dX8_take_7 : decode cX8_take 7 = .ok (.lload_n 2, 1) := dk_32 (dk_at dksX8_take_0 7 rfl rfl)
theorem dX8_take_8 : decode cX8_take 8 = .ok (.lload 4, 2) := dk_22 4 (dk_at dksX8_take_0 8 rfl rfl)
theorem dX8_take_10 : decode cX8_take 10 = .ok (.invokevirtual 79, 3) := dk_182 0 79 (dk_at dksX8_take_0 10 rfl rfl)
theorem dX8_take_13 : decode cX8_take 13 = .ok (.invokestatic 83, 3) := dk_184 0 83 (dk_at dksX8_take_0 13 rfl rfl)
theorem dX8_take_16 : decode cX8_take 16 = .ok (.istore 6, 2) := dk_54 6 (dk_at dksX8_take_0 16 rfl rfl)
theorem dX8_take_18 : decode cX8_take 18 = .ok (.aload_n 1, 1) := dk_43 (dk_at dksX8_take_0 18 rfl rfl)
theorem dX8_take_19 : decode cX8_take 19 = .ok (.getfield 48, 3) := dk_180 0 48 (dk_at dksX8_take_0 19 rfl rfl)
theorem dX8_take_22 : decode cX8_take 22 = .ok (.ifCond .ne 10, 3) := dk_154 0 10 (dk_at dksX8_take_1 0 rfl rfl)
theorem dX8_take_25 : decode cX8_take 25 = .ok (.aload_n 1, 1) := dk_43 (dk_at dksX8_take_1 3 rfl rfl)
theorem dX8_take_26 : decode cX8_take 26 = .ok (.iload 6, 2) := dk_21 6 (dk_at dksX8_take_1 4 rfl rfl)
theorem dX8_take_28 : decode cX8_take 28 = .ok (.invokevirtual 163, 3) := dk_182 0 163 (dk_at dksX8_take_1 6 rfl rfl)
theorem dX8_take_31 : decode cX8_take 31 = .ok (.return_, 1) := dk_177 (dk_at dksX8_take_1 9 rfl rfl)
theorem dX8_take_32 : decode cX8_take 32 = .ok (.aload_n 1, 1) := dk_43 (dk_at dksX8_take_1 10 rfl rfl)
theorem dX8_take_33 : decode cX8_take 33 = .ok (.getfield 51, 3) := dk_180 0 51 (dk_at dksX8_take_1 11 rfl rfl)
theorem dX8_take_36 : decode cX8_take 36 = .ok (.iload 6, 2) := dk_21 6 (dk_at dksX8_take_1 14 rfl rfl)
theorem dX8_take_38 : decode cX8_take 38 = .ok (.aaload, 1) := dk_50 (dk_at dksX8_take_1 16 rfl rfl)
theorem dX8_take_39 : decode cX8_take 39 = .ok (.astore 7, 2) := dk_58 7 (dk_at dksX8_take_1 17 rfl rfl)
theorem dX8_take_41 : decode cX8_take 41 = .ok (.aload_n 0, 1) := dk_42 (dk_at dksX8_take_1 19 rfl rfl)
theorem dX8_take_42 : decode cX8_take 42 = .ok (.aload 7, 2) := dk_25 7 (dk_at dksX8_take_1 20 rfl rfl)
theorem dX8_take_44 : decode cX8_take 44 = .ok (.lload_n 2, 1) := dk_32 (dk_at dksX8_take_1 22 rfl rfl)
theorem dX8_take_45 : decode cX8_take 45 = .ok (.lload 4, 2) := dk_22 4 (dk_at dksX8_take_2 0 rfl rfl)
theorem dX8_take_47 : decode cX8_take 47 = .ok (.invokevirtual 157, 3) := dk_182 0 157 (dk_at dksX8_take_2 2 rfl rfl)
theorem dX8_take_50 : decode cX8_take 50 = .ok (.aload 7, 2) := dk_25 7 (dk_at dksX8_take_2 5 rfl rfl)
theorem dX8_take_52 : decode cX8_take 52 = .ok (.getfield 45, 3) := dk_180 0 45 (dk_at dksX8_take_2 7 rfl rfl)
theorem dX8_take_55 : decode cX8_take 55 = .ok (.ifCond .le 25, 3) := dk_158 0 25 (dk_at dksX8_take_2 10 rfl rfl)
theorem dX8_take_58 : decode cX8_take 58 = .ok (.aload_n 1, 1) := dk_43 (dk_at dksX8_take_2 13 rfl rfl)
theorem dX8_take_59 : decode cX8_take 59 = .ok (.iload 6, 2) := dk_21 6 (dk_at dksX8_take_2 14 rfl rfl)
theorem dX8_take_61 : decode cX8_take 61 = .ok (.aload 7, 2) := dk_25 7 (dk_at dksX8_take_2 16 rfl rfl)
theorem dX8_take_63 : decode cX8_take 63 = .ok (.getfield 89, 3) := dk_180 0 89 (dk_at dksX8_take_2 18 rfl rfl)
theorem dX8_take_66 : decode cX8_take 66 = .ok (.iconst 0, 1) := dk_3 (dk_at dksX8_take_2 21 rfl rfl)
theorem dX8_take_67 : decode cX8_take 67 = .ok (.laload, 1) := dk_47 (dk_at dksX8_take_2 22 rfl rfl)
theorem dX8_take_68 : decode cX8_take 68 = .ok (.aload 7, 2) := dk_25 7 (dk_at dksX8_take_3 0 rfl rfl)
theorem dX8_take_70 : decode cX8_take 70 = .ok (.getfield 93, 3) := dk_180 0 93 (dk_at dksX8_take_3 2 rfl rfl)
theorem dX8_take_73 : decode cX8_take 73 = .ok (.iconst 0, 1) := dk_3 (dk_at dksX8_take_3 5 rfl rfl)
theorem dX8_take_74 : decode cX8_take 74 = .ok (.laload, 1) := dk_47 (dk_at dksX8_take_3 6 rfl rfl)
theorem dX8_take_75 : decode cX8_take 75 = .ok (.aload 7, 2) := dk_25 7 (dk_at dksX8_take_3 7 rfl rfl)
theorem dX8_take_77 : decode cX8_take 77 = .ok (.invokevirtual 142, 3) := dk_182 0 142 (dk_at dksX8_take_3 9 rfl rfl)
theorem dX8_take_80 : decode cX8_take 80 = .ok (.aload 7, 2) := dk_25 7 (dk_at dksX8_take_3 12 rfl rfl)
theorem dX8_take_82 : decode cX8_take 82 = .ok (.getfield 45, 3) := dk_180 0 45 (dk_at dksX8_take_3 14 rfl rfl)
theorem dX8_take_85 : decode cX8_take 85 = .ok (.iconst 4, 1) := dk_7 (dk_at dksX8_take_3 17 rfl rfl)
theorem dX8_take_86 : decode cX8_take 86 = .ok (.if_icmp .ge 29, 3) := dk_162 0 29 (dk_at dksX8_take_3 18 rfl rfl)
theorem dX8_take_89 : decode cX8_take 89 = .ok (.aload_n 1, 1) := dk_43 (dk_at dksX8_take_3 21 rfl rfl)
theorem dX8_take_90 : decode cX8_take 90 = .ok (.getfield 45, 3) := dk_180 0 45 (dk_at dksX8_take_4 0 rfl rfl)
theorem dX8_take_93 : decode cX8_take 93 = .ok (.iconst 1, 1) := dk_4 (dk_at dksX8_take_4 3 rfl rfl)
theorem dX8_take_94 : decode cX8_take 94 = .ok (.if_icmp .le 21, 3) := dk_164 0 21 (dk_at dksX8_take_4 4 rfl rfl)
theorem dX8_take_97 : decode cX8_take 97 = .ok (.aload_n 0, 1) := dk_42 (dk_at dksX8_take_4 7 rfl rfl)
theorem dX8_take_98 : decode cX8_take 98 = .ok (.aload_n 1, 1) := dk_43 (dk_at dksX8_take_4 8 rfl rfl)
theorem dX8_take_99 : decode cX8_take 99 = .ok (.iload 6, 2) := dk_21 6 (dk_at dksX8_take_4 9 rfl rfl)
theorem dX8_take_101 : decode cX8_take 101 = .ok (.ifCond .ne 7, 3) := dk_154 0 7 (dk_at dksX8_take_4 11 rfl rfl)
theorem dX8_take_104 : decode cX8_take 104 = .ok (.iconst 0, 1) := dk_3 (dk_at dksX8_take_4 14 rfl rfl)
theorem dX8_take_105 : decode cX8_take 105 = .ok (.goto 7, 3) := dk_167 0 7 (dk_at dksX8_take_4 15 rfl rfl)
theorem dX8_take_108 : decode cX8_take 108 = .ok (.iload 6, 2) := dk_21 6 (dk_at dksX8_take_4 18 rfl rfl)
theorem dX8_take_110 : decode cX8_take 110 = .ok (.iconst 1, 1) := dk_4 (dk_at dksX8_take_4 20 rfl rfl)
theorem dX8_take_111 : decode cX8_take 111 = .ok (.isub, 1) := dk_100 (dk_at dksX8_take_4 21 rfl rfl)
theorem dX8_take_112 : decode cX8_take 112 = .ok (.invokevirtual 166, 3) := dk_182 0 166 (dk_at dksX8_take_5 0 rfl rfl)
theorem dX8_take_115 : decode cX8_take 115 = .ok (.return_, 1) := dk_177 (dk_at dksX8_take_5 3 rfl rfl)
abbrev cX8_mend : ByteArray := prog_4_method_19_code
def yX8_mend : MethodName := ⟨RX8, "mend", "(LNandHouse$Knot;I)V"⟩
def dkwX8_mend_11 : List UInt8 := [180, 0, 93, 3, 47, 25, 4, 182, 0, 142, 177]
abbrev dktX8_mend_11 : List UInt8 := dkwX8_mend_11 ++ []
def dkwX8_mend_10 : List UInt8 := [166, 0, 33, 21, 5, 16, 8, 164, 0, 26, 43, 28, 4, 96, 25, 4, 180, 0, 89, 3, 47, 25, 4]
abbrev dktX8_mend_10 : List UInt8 := dkwX8_mend_10 ++ dktX8_mend_11
def dkwX8_mend_9 : List UInt8 := [182, 0, 142, 28, 4, 96, 43, 180, 0, 45, 162, 0, 46, 43, 180, 0, 51, 28, 4, 96, 50, 25, 4]
abbrev dktX8_mend_9 : List UInt8 := dkwX8_mend_9 ++ dktX8_mend_10
def dkwX8_mend_8 : List UInt8 := [4, 100, 182, 0, 163, 167, 255, 215, 43, 28, 45, 180, 0, 89, 3, 47, 45, 180, 0, 93, 3, 47, 45]
abbrev dktX8_mend_8 : List UInt8 := dkwX8_mend_8 ++ dktX8_mend_9
def dkwX8_mend_7 : List UInt8 := [25, 4, 3, 182, 0, 146, 25, 4, 3, 45, 45, 180, 0, 45, 4, 100, 182, 0, 153, 45, 45, 180, 0, 45]
abbrev dktX8_mend_7 : List UInt8 := dkwX8_mend_7 ++ dktX8_mend_8
def dkwX8_mend_6 : List UInt8 := [182, 0, 153, 25, 4, 3, 182, 0, 163, 167, 255, 221, 25, 4, 180, 0, 45, 21, 5, 5, 108, 162, 0, 35]
abbrev dktX8_mend_6 : List UInt8 := dkwX8_mend_6 ++ dktX8_mend_7
def dkwX8_mend_5 : List UInt8 := [21, 5, 5, 108, 162, 0, 74, 45, 45, 89, 180, 0, 45, 90, 4, 96, 181, 0, 45, 25, 4, 3]
abbrev dktX8_mend_5 : List UInt8 := dkwX8_mend_5 ++ dktX8_mend_6
def dkwX8_mend_4 : List UInt8 := [4, 96, 182, 0, 163, 167, 0, 97, 45, 180, 0, 45, 25, 4, 180, 0, 45, 162, 0, 41, 45, 180, 0, 45]
abbrev dktX8_mend_4 : List UInt8 := dkwX8_mend_4 ++ dktX8_mend_5
def dkwX8_mend_3 : List UInt8 := [181, 0, 45, 25, 4, 21, 6, 182, 0, 153, 132, 6, 1, 167, 255, 224, 42, 25, 4, 182, 0, 160, 43, 28]
abbrev dktX8_mend_3 : List UInt8 := dkwX8_mend_3 ++ dktX8_mend_4
def dkwX8_mend_2 : List UInt8 := [3, 54, 6, 21, 6, 25, 4, 180, 0, 45, 162, 0, 28, 45, 45, 89, 180, 0, 45, 90, 4, 96]
abbrev dktX8_mend_2 : List UInt8 := dkwX8_mend_2 ++ dktX8_mend_3
def dkwX8_mend_1 : List UInt8 := [25, 4, 182, 0, 61, 45, 180, 0, 45, 25, 4, 180, 0, 45, 96, 54, 5, 21, 5, 16, 8, 163, 0, 57]
abbrev dktX8_mend_1 : List UInt8 := dkwX8_mend_1 ++ dktX8_mend_2
def dkwX8_mend_0 : List UInt8 := [43, 180, 0, 51, 28, 50, 78, 43, 180, 0, 51, 28, 4, 96, 50, 58, 4, 42, 45, 182, 0, 61, 42]
abbrev dktX8_mend_0 : List UInt8 := dkwX8_mend_0 ++ dktX8_mend_1
theorem dksX8_mend_0 : cX8_mend.data.toList.drop 0 = dktX8_mend_0 := by decide +kernel
theorem dksX8_mend_1 : cX8_mend.data.toList.drop 23 = dktX8_mend_1 := dk_seg dksX8_mend_0 23 rfl rfl
theorem dksX8_mend_2 : cX8_mend.data.toList.drop 47 = dktX8_mend_2 := dk_seg dksX8_mend_1 24 rfl rfl
theorem dksX8_mend_3 : cX8_mend.data.toList.drop 69 = dktX8_mend_3 := dk_seg dksX8_mend_2 22 rfl rfl
theorem dksX8_mend_4 : cX8_mend.data.toList.drop 93 = dktX8_mend_4 := dk_seg dksX8_mend_3 24 rfl rfl
theorem dksX8_mend_5 : cX8_mend.data.toList.drop 117 = dktX8_mend_5 := dk_seg dksX8_mend_4 24 rfl rfl
theorem dksX8_mend_6 : cX8_mend.data.toList.drop 139 = dktX8_mend_6 := dk_seg dksX8_mend_5 22 rfl rfl
theorem dksX8_mend_7 : cX8_mend.data.toList.drop 163 = dktX8_mend_7 := dk_seg dksX8_mend_6 24 rfl rfl
theorem dksX8_mend_8 : cX8_mend.data.toList.drop 187 = dktX8_mend_8 := dk_seg dksX8_mend_7 24 rfl rfl
theorem dksX8_mend_9 : cX8_mend.data.toList.drop 210 = dktX8_mend_9 := dk_seg dksX8_mend_8 23 rfl rfl
theorem dksX8_mend_10 : cX8_mend.data.toList.drop 233 = dktX8_mend_10 := dk_seg dksX8_mend_9 23 rfl rfl
theorem dksX8_mend_11 : cX8_mend.data.toList.drop 256 = dktX8_mend_11 := dk_seg dksX8_mend_10 23 rfl rfl
theorem dX8_mend_0 : decode cX8_mend 0 = .ok (.aload_n 1, 1) := dk_43 (dk_at dksX8_mend_0 0 rfl rfl)
theorem dX8_mend_1 : decode cX8_mend 1 = .ok (.getfield 51, 3) := dk_180 0 51 (dk_at dksX8_mend_0 1 rfl rfl)
theorem dX8_mend_4 : decode cX8_mend 4 = .ok (.iload_n 2, 1) := dk_28 (dk_at dksX8_mend_0 4 rfl rfl)
theorem dX8_mend_5 : decode cX8_mend 5 = .ok (.aaload, 1) := dk_50 (dk_at dksX8_mend_0 5 rfl rfl)
theorem dX8_mend_6 : decode cX8_mend 6 = .ok (.astore_n 3, 1) := dk_78 (dk_at dksX8_mend_0 6 rfl rfl)
theorem dX8_mend_7 : decode cX8_mend 7 = .ok (.aload_n 1, 1) := dk_43 (dk_at dksX8_mend_0 7 rfl rfl)
theorem dX8_mend_8 : decode cX8_mend 8 = .ok (.getfield 51, 3) := dk_180 0 51 (dk_at dksX8_mend_0 8 rfl rfl)
theorem dX8_mend_11 : decode cX8_mend 11 = .ok (.iload_n 2, 1) := dk_28 (dk_at dksX8_mend_0 11 rfl rfl)
theorem dX8_mend_12 : decode cX8_mend 12 = .ok (.iconst 1, 1) := dk_4 (dk_at dksX8_mend_0 12 rfl rfl)
theorem dX8_mend_13 : decode cX8_mend 13 = .ok (.iadd, 1) := dk_96 (dk_at dksX8_mend_0 13 rfl rfl)
theorem dX8_mend_14 : decode cX8_mend 14 = .ok (.aaload, 1) := dk_50 (dk_at dksX8_mend_0 14 rfl rfl)
theorem dX8_mend_15 : decode cX8_mend 15 = .ok (.astore 4, 2) := dk_58 4 (dk_at dksX8_mend_0 15 rfl rfl)
theorem dX8_mend_17 : decode cX8_mend 17 = .ok (.aload_n 0, 1) := dk_42 (dk_at dksX8_mend_0 17 rfl rfl)
theorem dX8_mend_18 : decode cX8_mend 18 = .ok (.aload_n 3, 1) := dk_45 (dk_at dksX8_mend_0 18 rfl rfl)
theorem dX8_mend_19 : decode cX8_mend 19 = .ok (.invokevirtual 61, 3) := dk_182 0 61 (dk_at dksX8_mend_0 19 rfl rfl)
theorem dX8_mend_22 : decode cX8_mend 22 = .ok (.aload_n 0, 1) := dk_42 (dk_at dksX8_mend_0 22 rfl rfl)
theorem dX8_mend_23 : decode cX8_mend 23 = .ok (.aload 4, 2) := dk_25 4 (dk_at dksX8_mend_1 0 rfl rfl)
theorem dX8_mend_25 : decode cX8_mend 25 = .ok (.invokevirtual 61, 3) := dk_182 0 61 (dk_at dksX8_mend_1 2 rfl rfl)
theorem dX8_mend_28 : decode cX8_mend 28 = .ok (.aload_n 3, 1) := dk_45 (dk_at dksX8_mend_1 5 rfl rfl)
theorem dX8_mend_29 : decode cX8_mend 29 = .ok (.getfield 45, 3) := dk_180 0 45 (dk_at dksX8_mend_1 6 rfl rfl)
theorem dX8_mend_32 : decode cX8_mend 32 = .ok (.aload 4, 2) := dk_25 4 (dk_at dksX8_mend_1 9 rfl rfl)
theorem dX8_mend_34 : decode cX8_mend 34 = .ok (.getfield 45, 3) := dk_180 0 45 (dk_at dksX8_mend_1 11 rfl rfl)
theorem dX8_mend_37 : decode cX8_mend 37 = .ok (.iadd, 1) := dk_96 (dk_at dksX8_mend_1 14 rfl rfl)
theorem dX8_mend_38 : decode cX8_mend 38 = .ok (.istore 5, 2) := dk_54 5 (dk_at dksX8_mend_1 15 rfl rfl)
theorem dX8_mend_40 : decode cX8_mend 40 = .ok (.iload 5, 2) := dk_21 5 (dk_at dksX8_mend_1 17 rfl rfl)
theorem dX8_mend_42 : decode cX8_mend 42 = .ok (.bipush 8, 2) := dk_16 8 (dk_at dksX8_mend_1 19 rfl rfl)
theorem dX8_mend_44 : decode cX8_mend 44 = .ok (.if_icmp .gt 57, 3) := dk_163 0 57 (dk_at dksX8_mend_1 21 rfl rfl)
theorem dX8_mend_47 : decode cX8_mend 47 = .ok (.iconst 0, 1) := dk_3 (dk_at dksX8_mend_2 0 rfl rfl)
theorem dX8_mend_48 : decode cX8_mend 48 = .ok (.istore 6, 2) := dk_54 6 (dk_at dksX8_mend_2 1 rfl rfl)
theorem dX8_mend_50 : decode cX8_mend 50 = .ok (.iload 6, 2) := dk_21 6 (dk_at dksX8_mend_2 3 rfl rfl)
theorem dX8_mend_52 : decode cX8_mend 52 = .ok (.aload 4, 2) := dk_25 4 (dk_at dksX8_mend_2 5 rfl rfl)
theorem dX8_mend_54 : decode cX8_mend 54 = .ok (.getfield 45, 3) := dk_180 0 45 (dk_at dksX8_mend_2 7 rfl rfl)
theorem dX8_mend_57 : decode cX8_mend 57 = .ok (.if_icmp .ge 28, 3) := dk_162 0 28 (dk_at dksX8_mend_2 10 rfl rfl)
theorem dX8_mend_60 : decode cX8_mend 60 = .ok (.aload_n 3, 1) := dk_45 (dk_at dksX8_mend_2 13 rfl rfl)
theorem dX8_mend_61 : decode cX8_mend 61 = .ok (.aload_n 3, 1) := dk_45 (dk_at dksX8_mend_2 14 rfl rfl)
theorem dX8_mend_62 : decode cX8_mend 62 = .ok (.dup, 1) := dk_89 (dk_at dksX8_mend_2 15 rfl rfl)
theorem dX8_mend_63 : decode cX8_mend 63 = .ok (.getfield 45, 3) := dk_180 0 45 (dk_at dksX8_mend_2 16 rfl rfl)
theorem dX8_mend_66 : decode cX8_mend 66 = .ok (.dup_x1, 1) := dk_90 (dk_at dksX8_mend_2 19 rfl rfl)
theorem dX8_mend_67 : decode cX8_mend 67 = .ok (.iconst 1, 1) := dk_4 (dk_at dksX8_mend_2 20 rfl rfl)
theorem dX8_mend_68 : decode cX8_mend 68 = .ok (.iadd, 1) := dk_96 (dk_at dksX8_mend_2 21 rfl rfl)
theorem dX8_mend_69 : decode cX8_mend 69 = .ok (.putfield 45, 3) := dk_181 0 45 (dk_at dksX8_mend_3 0 rfl rfl)
theorem dX8_mend_72 : decode cX8_mend 72 = .ok (.aload 4, 2) := dk_25 4 (dk_at dksX8_mend_3 3 rfl rfl)
theorem dX8_mend_74 : decode cX8_mend 74 = .ok (.iload 6, 2) := dk_21 6 (dk_at dksX8_mend_3 5 rfl rfl)
theorem dX8_mend_76 : decode cX8_mend 76 = .ok (.invokevirtual 153, 3) := dk_182 0 153 (dk_at dksX8_mend_3 7 rfl rfl)
theorem dX8_mend_79 : decode cX8_mend 79 = .ok (.iinc 6 1, 3) := dk_132 6 1 (dk_at dksX8_mend_3 10 rfl rfl)
theorem dX8_mend_82 : decode cX8_mend 82 = .ok (.goto (-32), 3) := dk_167 255 224 (dk_at dksX8_mend_3 13 rfl rfl)
theorem dX8_mend_85 : decode cX8_mend 85 = .ok (.aload_n 0, 1) := dk_42 (dk_at dksX8_mend_3 16 rfl rfl)
theorem dX8_mend_86 : decode cX8_mend 86 = .ok (.aload 4, 2) := dk_25 4 (dk_at dksX8_mend_3 17 rfl rfl)
theorem dX8_mend_88 : decode cX8_mend 88 = .ok (.invokevirtual 160, 3) := dk_182 0 160 (dk_at dksX8_mend_3 19 rfl rfl)
theorem dX8_mend_91 : decode cX8_mend 91 = .ok (.aload_n 1, 1) := dk_43 (dk_at dksX8_mend_3 22 rfl rfl)
theorem dX8_mend_92 : decode cX8_mend 92 = .ok (.iload_n 2, 1) := dk_28 (dk_at dksX8_mend_3 23 rfl rfl)
theorem dX8_mend_93 : decode cX8_mend 93 = .ok (.iconst 1, 1) := dk_4 (dk_at dksX8_mend_4 0 rfl rfl)
theorem dX8_mend_94 : decode cX8_mend 94 = .ok (.iadd, 1) := dk_96 (dk_at dksX8_mend_4 1 rfl rfl)
theorem dX8_mend_95 : decode cX8_mend 95 = .ok (.invokevirtual 163, 3) := dk_182 0 163 (dk_at dksX8_mend_4 2 rfl rfl)
theorem dX8_mend_98 : decode cX8_mend 98 = .ok (.goto 97, 3) := dk_167 0 97 (dk_at dksX8_mend_4 5 rfl rfl)
theorem dX8_mend_101 : decode cX8_mend 101 = .ok (.aload_n 3, 1) := dk_45 (dk_at dksX8_mend_4 8 rfl rfl)
theorem dX8_mend_102 : decode cX8_mend 102 = .ok (.getfield 45, 3) := dk_180 0 45 (dk_at dksX8_mend_4 9 rfl rfl)
theorem dX8_mend_105 : decode cX8_mend 105 = .ok (.aload 4, 2) := dk_25 4 (dk_at dksX8_mend_4 12 rfl rfl)
theorem dX8_mend_107 : decode cX8_mend 107 = .ok (.getfield 45, 3) := dk_180 0 45 (dk_at dksX8_mend_4 14 rfl rfl)
theorem dX8_mend_110 : decode cX8_mend 110 = .ok (.if_icmp .ge 41, 3) := dk_162 0 41 (dk_at dksX8_mend_4 17 rfl rfl)
theorem dX8_mend_113 : decode cX8_mend 113 = .ok (.aload_n 3, 1) := dk_45 (dk_at dksX8_mend_4 20 rfl rfl)
theorem dX8_mend_114 : decode cX8_mend 114 = .ok (.getfield 45, 3) := dk_180 0 45 (dk_at dksX8_mend_4 21 rfl rfl)
theorem dX8_mend_117 : decode cX8_mend 117 = .ok (.iload 5, 2) := dk_21 5 (dk_at dksX8_mend_5 0 rfl rfl)
theorem dX8_mend_119 : decode cX8_mend 119 = .ok (.iconst 2, 1) := dk_5 (dk_at dksX8_mend_5 2 rfl rfl)
theorem dX8_mend_120 : decode cX8_mend 120 = .ok (.idiv, 1) := dk_108 (dk_at dksX8_mend_5 3 rfl rfl)
theorem dX8_mend_121 : decode cX8_mend 121 = .ok (.if_icmp .ge 74, 3) := dk_162 0 74 (dk_at dksX8_mend_5 4 rfl rfl)
theorem dX8_mend_124 : decode cX8_mend 124 = .ok (.aload_n 3, 1) := dk_45 (dk_at dksX8_mend_5 7 rfl rfl)
theorem dX8_mend_125 : decode cX8_mend 125 = .ok (.aload_n 3, 1) := dk_45 (dk_at dksX8_mend_5 8 rfl rfl)
theorem dX8_mend_126 : decode cX8_mend 126 = .ok (.dup, 1) := dk_89 (dk_at dksX8_mend_5 9 rfl rfl)
theorem dX8_mend_127 : decode cX8_mend 127 = .ok (.getfield 45, 3) := dk_180 0 45 (dk_at dksX8_mend_5 10 rfl rfl)
theorem dX8_mend_130 : decode cX8_mend 130 = .ok (.dup_x1, 1) := dk_90 (dk_at dksX8_mend_5 13 rfl rfl)
theorem dX8_mend_131 : decode cX8_mend 131 = .ok (.iconst 1, 1) := dk_4 (dk_at dksX8_mend_5 14 rfl rfl)
theorem dX8_mend_132 : decode cX8_mend 132 = .ok (.iadd, 1) := dk_96 (dk_at dksX8_mend_5 15 rfl rfl)
theorem dX8_mend_133 : decode cX8_mend 133 = .ok (.putfield 45, 3) := dk_181 0 45 (dk_at dksX8_mend_5 16 rfl rfl)
theorem dX8_mend_136 : decode cX8_mend 136 = .ok (.aload 4, 2) := dk_25 4 (dk_at dksX8_mend_5 19 rfl rfl)
theorem dX8_mend_138 : decode cX8_mend 138 = .ok (.iconst 0, 1) := dk_3 (dk_at dksX8_mend_5 21 rfl rfl)
theorem dX8_mend_139 : decode cX8_mend 139 = .ok (.invokevirtual 153, 3) := dk_182 0 153 (dk_at dksX8_mend_6 0 rfl rfl)
theorem dX8_mend_142 : decode cX8_mend 142 = .ok (.aload 4, 2) := dk_25 4 (dk_at dksX8_mend_6 3 rfl rfl)
theorem dX8_mend_144 : decode cX8_mend 144 = .ok (.iconst 0, 1) := dk_3 (dk_at dksX8_mend_6 5 rfl rfl)
theorem dX8_mend_145 : decode cX8_mend 145 = .ok (.invokevirtual 163, 3) := dk_182 0 163 (dk_at dksX8_mend_6 6 rfl rfl)
theorem dX8_mend_148 : decode cX8_mend 148 = .ok (.goto (-35), 3) := dk_167 255 221 (dk_at dksX8_mend_6 9 rfl rfl)
theorem dX8_mend_151 : decode cX8_mend 151 = .ok (.aload 4, 2) := dk_25 4 (dk_at dksX8_mend_6 12 rfl rfl)
theorem dX8_mend_153 : decode cX8_mend 153 = .ok (.getfield 45, 3) := dk_180 0 45 (dk_at dksX8_mend_6 14 rfl rfl)
theorem dX8_mend_156 : decode cX8_mend 156 = .ok (.iload 5, 2) := dk_21 5 (dk_at dksX8_mend_6 17 rfl rfl)
theorem dX8_mend_158 : decode cX8_mend 158 = .ok (.iconst 2, 1) := dk_5 (dk_at dksX8_mend_6 19 rfl rfl)
theorem dX8_mend_159 : decode cX8_mend 159 = .ok (.idiv, 1) := dk_108 (dk_at dksX8_mend_6 20 rfl rfl)
theorem dX8_mend_160 : decode cX8_mend 160 = .ok (.if_icmp .ge 35, 3) := dk_162 0 35 (dk_at dksX8_mend_6 21 rfl rfl)
theorem dX8_mend_163 : decode cX8_mend 163 = .ok (.aload 4, 2) := dk_25 4 (dk_at dksX8_mend_7 0 rfl rfl)
theorem dX8_mend_165 : decode cX8_mend 165 = .ok (.iconst 0, 1) := dk_3 (dk_at dksX8_mend_7 2 rfl rfl)
theorem dX8_mend_166 : decode cX8_mend 166 = .ok (.invokevirtual 146, 3) := dk_182 0 146 (dk_at dksX8_mend_7 3 rfl rfl)
theorem dX8_mend_169 : decode cX8_mend 169 = .ok (.aload 4, 2) := dk_25 4 (dk_at dksX8_mend_7 6 rfl rfl)
theorem dX8_mend_171 : decode cX8_mend 171 = .ok (.iconst 0, 1) := dk_3 (dk_at dksX8_mend_7 8 rfl rfl)
theorem dX8_mend_172 : decode cX8_mend 172 = .ok (.aload_n 3, 1) := dk_45 (dk_at dksX8_mend_7 9 rfl rfl)
theorem dX8_mend_173 : decode cX8_mend 173 = .ok (.aload_n 3, 1) := dk_45 (dk_at dksX8_mend_7 10 rfl rfl)
theorem dX8_mend_174 : decode cX8_mend 174 = .ok (.getfield 45, 3) := dk_180 0 45 (dk_at dksX8_mend_7 11 rfl rfl)
theorem dX8_mend_177 : decode cX8_mend 177 = .ok (.iconst 1, 1) := dk_4 (dk_at dksX8_mend_7 14 rfl rfl)
theorem dX8_mend_178 : decode cX8_mend 178 = .ok (.isub, 1) := dk_100 (dk_at dksX8_mend_7 15 rfl rfl)
theorem dX8_mend_179 : decode cX8_mend 179 = .ok (.invokevirtual 153, 3) := dk_182 0 153 (dk_at dksX8_mend_7 16 rfl rfl)
theorem dX8_mend_182 : decode cX8_mend 182 = .ok (.aload_n 3, 1) := dk_45 (dk_at dksX8_mend_7 19 rfl rfl)
theorem dX8_mend_183 : decode cX8_mend 183 = .ok (.aload_n 3, 1) := dk_45 (dk_at dksX8_mend_7 20 rfl rfl)
theorem dX8_mend_184 : decode cX8_mend 184 = .ok (.getfield 45, 3) := dk_180 0 45 (dk_at dksX8_mend_7 21 rfl rfl)
theorem dX8_mend_187 : decode cX8_mend 187 = .ok (.iconst 1, 1) := dk_4 (dk_at dksX8_mend_8 0 rfl rfl)
theorem dX8_mend_188 : decode cX8_mend 188 = .ok (.isub, 1) := dk_100 (dk_at dksX8_mend_8 1 rfl rfl)
theorem dX8_mend_189 : decode cX8_mend 189 = .ok (.invokevirtual 163, 3) := dk_182 0 163 (dk_at dksX8_mend_8 2 rfl rfl)
theorem dX8_mend_192 : decode cX8_mend 192 = .ok (.goto (-41), 3) := dk_167 255 215 (dk_at dksX8_mend_8 5 rfl rfl)
theorem dX8_mend_195 : decode cX8_mend 195 = .ok (.aload_n 1, 1) := dk_43 (dk_at dksX8_mend_8 8 rfl rfl)
theorem dX8_mend_196 : decode cX8_mend 196 = .ok (.iload_n 2, 1) := dk_28 (dk_at dksX8_mend_8 9 rfl rfl)
theorem dX8_mend_197 : decode cX8_mend 197 = .ok (.aload_n 3, 1) := dk_45 (dk_at dksX8_mend_8 10 rfl rfl)
theorem dX8_mend_198 : decode cX8_mend 198 = .ok (.getfield 89, 3) := dk_180 0 89 (dk_at dksX8_mend_8 11 rfl rfl)
theorem dX8_mend_201 : decode cX8_mend 201 = .ok (.iconst 0, 1) := dk_3 (dk_at dksX8_mend_8 14 rfl rfl)
theorem dX8_mend_202 : decode cX8_mend 202 = .ok (.laload, 1) := dk_47 (dk_at dksX8_mend_8 15 rfl rfl)
theorem dX8_mend_203 : decode cX8_mend 203 = .ok (.aload_n 3, 1) := dk_45 (dk_at dksX8_mend_8 16 rfl rfl)
theorem dX8_mend_204 : decode cX8_mend 204 = .ok (.getfield 93, 3) := dk_180 0 93 (dk_at dksX8_mend_8 17 rfl rfl)
theorem dX8_mend_207 : decode cX8_mend 207 = .ok (.iconst 0, 1) := dk_3 (dk_at dksX8_mend_8 20 rfl rfl)
theorem dX8_mend_208 : decode cX8_mend 208 = .ok (.laload, 1) := dk_47 (dk_at dksX8_mend_8 21 rfl rfl)
theorem dX8_mend_209 : decode cX8_mend 209 = .ok (.aload_n 3, 1) := dk_45 (dk_at dksX8_mend_8 22 rfl rfl)
theorem dX8_mend_210 : decode cX8_mend 210 = .ok (.invokevirtual 142, 3) := dk_182 0 142 (dk_at dksX8_mend_9 0 rfl rfl)
theorem dX8_mend_213 : decode cX8_mend 213 = .ok (.iload_n 2, 1) := dk_28 (dk_at dksX8_mend_9 3 rfl rfl)
theorem dX8_mend_214 : decode cX8_mend 214 = .ok (.iconst 1, 1) := dk_4 (dk_at dksX8_mend_9 4 rfl rfl)
theorem dX8_mend_215 : decode cX8_mend 215 = .ok (.iadd, 1) := dk_96 (dk_at dksX8_mend_9 5 rfl rfl)
theorem dX8_mend_216 : decode cX8_mend 216 = .ok (.aload_n 1, 1) := dk_43 (dk_at dksX8_mend_9 6 rfl rfl)
theorem dX8_mend_217 : decode cX8_mend 217 = .ok (.getfield 45, 3) := dk_180 0 45 (dk_at dksX8_mend_9 7 rfl rfl)
theorem dX8_mend_220 : decode cX8_mend 220 = .ok (.if_icmp .ge 46, 3) := dk_162 0 46 (dk_at dksX8_mend_9 10 rfl rfl)
theorem dX8_mend_223 : decode cX8_mend 223 = .ok (.aload_n 1, 1) := dk_43 (dk_at dksX8_mend_9 13 rfl rfl)
theorem dX8_mend_224 : decode cX8_mend 224 = .ok (.getfield 51, 3) := dk_180 0 51 (dk_at dksX8_mend_9 14 rfl rfl)
theorem dX8_mend_227 : decode cX8_mend 227 = .ok (.iload_n 2, 1) := dk_28 (dk_at dksX8_mend_9 17 rfl rfl)
theorem dX8_mend_228 : decode cX8_mend 228 = .ok (.iconst 1, 1) := dk_4 (dk_at dksX8_mend_9 18 rfl rfl)
theorem dX8_mend_229 : decode cX8_mend 229 = .ok (.iadd, 1) := dk_96 (dk_at dksX8_mend_9 19 rfl rfl)
theorem dX8_mend_230 : decode cX8_mend 230 = .ok (.aaload, 1) := dk_50 (dk_at dksX8_mend_9 20 rfl rfl)
theorem dX8_mend_231 : decode cX8_mend 231 = .ok (.aload 4, 2) := dk_25 4 (dk_at dksX8_mend_9 21 rfl rfl)
theorem dX8_mend_233 : decode cX8_mend 233 = .ok (.if_acmp .ne 33, 3) := dk_166 0 33 (dk_at dksX8_mend_10 0 rfl rfl)
theorem dX8_mend_236 : decode cX8_mend 236 = .ok (.iload 5, 2) := dk_21 5 (dk_at dksX8_mend_10 3 rfl rfl)
theorem dX8_mend_238 : decode cX8_mend 238 = .ok (.bipush 8, 2) := dk_16 8 (dk_at dksX8_mend_10 5 rfl rfl)
theorem dX8_mend_240 : decode cX8_mend 240 = .ok (.if_icmp .le 26, 3) := dk_164 0 26 (dk_at dksX8_mend_10 7 rfl rfl)
theorem dX8_mend_243 : decode cX8_mend 243 = .ok (.aload_n 1, 1) := dk_43 (dk_at dksX8_mend_10 10 rfl rfl)
theorem dX8_mend_244 : decode cX8_mend 244 = .ok (.iload_n 2, 1) := dk_28 (dk_at dksX8_mend_10 11 rfl rfl)
theorem dX8_mend_245 : decode cX8_mend 245 = .ok (.iconst 1, 1) := dk_4 (dk_at dksX8_mend_10 12 rfl rfl)
theorem dX8_mend_246 : decode cX8_mend 246 = .ok (.iadd, 1) := dk_96 (dk_at dksX8_mend_10 13 rfl rfl)
theorem dX8_mend_247 : decode cX8_mend 247 = .ok (.aload 4, 2) := dk_25 4 (dk_at dksX8_mend_10 14 rfl rfl)
theorem dX8_mend_249 : decode cX8_mend 249 = .ok (.getfield 89, 3) := dk_180 0 89 (dk_at dksX8_mend_10 16 rfl rfl)
theorem dX8_mend_252 : decode cX8_mend 252 = .ok (.iconst 0, 1) := dk_3 (dk_at dksX8_mend_10 19 rfl rfl)
theorem dX8_mend_253 : decode cX8_mend 253 = .ok (.laload, 1) := dk_47 (dk_at dksX8_mend_10 20 rfl rfl)
theorem dX8_mend_254 : decode cX8_mend 254 = .ok (.aload 4, 2) := dk_25 4 (dk_at dksX8_mend_10 21 rfl rfl)
theorem dX8_mend_256 : decode cX8_mend 256 = .ok (.getfield 93, 3) := dk_180 0 93 (dk_at dksX8_mend_11 0 rfl rfl)
theorem dX8_mend_259 : decode cX8_mend 259 = .ok (.iconst 0, 1) := dk_3 (dk_at dksX8_mend_11 3 rfl rfl)
theorem dX8_mend_260 : decode cX8_mend 260 = .ok (.laload, 1) := dk_47 (dk_at dksX8_mend_11 4 rfl rfl)
theorem dX8_mend_261 : decode cX8_mend 261 = .ok (.aload 4, 2) := dk_25 4 (dk_at dksX8_mend_11 5 rfl rfl)
theorem dX8_mend_263 : decode cX8_mend 263 = .ok (.invokevirtual 142, 3) := dk_182 0 142 (dk_at dksX8_mend_11 7 rfl rfl)
theorem dX8_mend_266 : decode cX8_mend 266 = .ok (.return_, 1) := dk_177 (dk_at dksX8_mend_11 10 rfl rfl)
abbrev cX8_give : ByteArray := prog_4_method_6_code
def yX8_give : MethodName := ⟨RX8, "give", "(LNandHouse$Knot;)V"⟩
def dkwX8_give_1 : List UInt8 := [132, 2, 1, 167, 255, 238, 42, 180, 0, 13, 42, 89, 180, 0, 54, 4, 100, 90, 181, 0, 54, 43, 83, 177]
abbrev dktX8_give_1 : List UInt8 := dkwX8_give_1 ++ []
def dkwX8_give_0 : List UInt8 := [42, 43, 182, 0, 61, 3, 61, 28, 43, 180, 0, 45, 162, 0, 16, 43, 180, 0, 51, 28, 1, 83]
abbrev dktX8_give_0 : List UInt8 := dkwX8_give_0 ++ dktX8_give_1
theorem dksX8_give_0 : cX8_give.data.toList.drop 0 = dktX8_give_0 := by decide +kernel
theorem dksX8_give_1 : cX8_give.data.toList.drop 22 = dktX8_give_1 := dk_seg dksX8_give_0 22 rfl rfl
theorem dX8_give_0 : decode cX8_give 0 = .ok (.aload_n 0, 1) := dk_42 (dk_at dksX8_give_0 0 rfl rfl)
theorem dX8_give_1 : decode cX8_give 1 = .ok (.aload_n 1, 1) := dk_43 (dk_at dksX8_give_0 1 rfl rfl)
theorem dX8_give_2 : decode cX8_give 2 = .ok (.invokevirtual 61, 3) := dk_182 0 61 (dk_at dksX8_give_0 2 rfl rfl)
theorem dX8_give_5 : decode cX8_give 5 = .ok (.iconst 0, 1) := dk_3 (dk_at dksX8_give_0 5 rfl rfl)
theorem dX8_give_6 : decode cX8_give 6 = .ok (.istore_n 2, 1) := dk_61 (dk_at dksX8_give_0 6 rfl rfl)
theorem dX8_give_7 : decode cX8_give 7 = .ok (.iload_n 2, 1) := dk_28 (dk_at dksX8_give_0 7 rfl rfl)
theorem dX8_give_8 : decode cX8_give 8 = .ok (.aload_n 1, 1) := dk_43 (dk_at dksX8_give_0 8 rfl rfl)
theorem dX8_give_9 : decode cX8_give 9 = .ok (.getfield 45, 3) := dk_180 0 45 (dk_at dksX8_give_0 9 rfl rfl)
theorem dX8_give_12 : decode cX8_give 12 = .ok (.if_icmp .ge 16, 3) := dk_162 0 16 (dk_at dksX8_give_0 12 rfl rfl)
theorem dX8_give_15 : decode cX8_give 15 = .ok (.aload_n 1, 1) := dk_43 (dk_at dksX8_give_0 15 rfl rfl)
theorem dX8_give_16 : decode cX8_give 16 = .ok (.getfield 51, 3) := dk_180 0 51 (dk_at dksX8_give_0 16 rfl rfl)
theorem dX8_give_19 : decode cX8_give 19 = .ok (.iload_n 2, 1) := dk_28 (dk_at dksX8_give_0 19 rfl rfl)
theorem dX8_give_20 : decode cX8_give 20 = .ok (.aconst_null, 1) := dk_1 (dk_at dksX8_give_0 20 rfl rfl)
theorem dX8_give_21 : decode cX8_give 21 = .ok (.aastore, 1) := dk_83 (dk_at dksX8_give_0 21 rfl rfl)
theorem dX8_give_22 : decode cX8_give 22 = .ok (.iinc 2 1, 3) := dk_132 2 1 (dk_at dksX8_give_1 0 rfl rfl)
theorem dX8_give_25 : decode cX8_give 25 = .ok (.goto (-18), 3) := dk_167 255 238 (dk_at dksX8_give_1 3 rfl rfl)
theorem dX8_give_28 : decode cX8_give 28 = .ok (.aload_n 0, 1) := dk_42 (dk_at dksX8_give_1 6 rfl rfl)
theorem dX8_give_29 : decode cX8_give 29 = .ok (.getfield 13, 3) := dk_180 0 13 (dk_at dksX8_give_1 7 rfl rfl)
theorem dX8_give_32 : decode cX8_give 32 = .ok (.aload_n 0, 1) := dk_42 (dk_at dksX8_give_1 10 rfl rfl)
theorem dX8_give_33 : decode cX8_give 33 = .ok (.dup, 1) := dk_89 (dk_at dksX8_give_1 11 rfl rfl)
theorem dX8_give_34 : decode cX8_give 34 = .ok (.getfield 54, 3) := dk_180 0 54 (dk_at dksX8_give_1 12 rfl rfl)
theorem dX8_give_37 : decode cX8_give 37 = .ok (.iconst 1, 1) := dk_4 (dk_at dksX8_give_1 15 rfl rfl)
theorem dX8_give_38 : decode cX8_give 38 = .ok (.isub, 1) := dk_100 (dk_at dksX8_give_1 16 rfl rfl)
theorem dX8_give_39 : decode cX8_give 39 = .ok (.dup_x1, 1) := dk_90 (dk_at dksX8_give_1 17 rfl rfl)
theorem dX8_give_40 : decode cX8_give 40 = .ok (.putfield 54, 3) := dk_181 0 54 (dk_at dksX8_give_1 18 rfl rfl)
theorem dX8_give_43 : decode cX8_give 43 = .ok (.aload_n 1, 1) := dk_43 (dk_at dksX8_give_1 21 rfl rfl)
theorem dX8_give_44 : decode cX8_give 44 = .ok (.aastore, 1) := dk_83 (dk_at dksX8_give_1 22 rfl rfl)
theorem dX8_give_45 : decode cX8_give 45 = .ok (.return_, 1) := dk_177 (dk_at dksX8_give_1 23 rfl rfl)
abbrev cX8_plant : ByteArray := prog_4_method_3_code
def yX8_plant : MethodName := ⟨RX8, "plant", "(LNandHouse$Knot;)V"⟩
def dkwX8_plant_0 : List UInt8 := [42, 42, 180, 0, 29, 182, 0, 33, 42, 43, 181, 0, 29, 177]
abbrev dktX8_plant_0 : List UInt8 := dkwX8_plant_0 ++ []
theorem dksX8_plant_0 : cX8_plant.data.toList.drop 0 = dktX8_plant_0 := by decide +kernel
theorem dX8_plant_0 : decode cX8_plant 0 = .ok (.aload_n 0, 1) := dk_42 (dk_at dksX8_plant_0 0 rfl rfl)
theorem dX8_plant_1 : decode cX8_plant 1 = .ok (.aload_n 0, 1) := dk_42 (dk_at dksX8_plant_0 1 rfl rfl)
theorem dX8_plant_2 : decode cX8_plant 2 = .ok (.getfield 29, 3) := dk_180 0 29 (dk_at dksX8_plant_0 2 rfl rfl)
theorem dX8_plant_5 : decode cX8_plant 5 = .ok (.invokevirtual 33, 3) := dk_182 0 33 (dk_at dksX8_plant_0 5 rfl rfl)
theorem dX8_plant_8 : decode cX8_plant 8 = .ok (.aload_n 0, 1) := dk_42 (dk_at dksX8_plant_0 8 rfl rfl)
theorem dX8_plant_9 : decode cX8_plant 9 = .ok (.aload_n 1, 1) := dk_43 (dk_at dksX8_plant_0 9 rfl rfl)
theorem dX8_plant_10 : decode cX8_plant 10 = .ok (.putfield 29, 3) := dk_181 0 29 (dk_at dksX8_plant_0 10 rfl rfl)
theorem dX8_plant_13 : decode cX8_plant 13 = .ok (.return_, 1) := dk_177 (dk_at dksX8_plant_0 13 rfl rfl)
abbrev cX8_isSound : ByteArray := prog_4_method_24_code
def yX8_isSound : MethodName := ⟨RX8, "isSound", "(LNandHouse$Knot;Z)Z"⟩
def dkwX8_isSound_11 : List UInt8 := [180, 0, 93, 21, 4, 4, 96, 47, 184, 0, 187, 126, 62, 132, 4, 1, 167, 255, 33, 29, 172]
abbrev dktX8_isSound_11 : List UInt8 := dkwX8_isSound_11 ++ []
def dkwX8_isSound_10 : List UInt8 := [162, 0, 35, 29, 42, 180, 0, 102, 42, 180, 0, 105, 43, 180, 0, 89, 21, 4, 4, 96, 47, 43]
abbrev dktX8_isSound_10 : List UInt8 := dkwX8_isSound_10 ++ dktX8_isSound_11
def dkwX8_isSound_9 : List UInt8 := [3, 182, 0, 191, 153, 0, 7, 4, 167, 0, 4, 3, 126, 62, 21, 4, 4, 96, 43, 180, 0, 45]
abbrev dktX8_isSound_9 : List UInt8 := dkwX8_isSound_9 ++ dktX8_isSound_10
def dkwX8_isSound_8 : List UInt8 := [154, 0, 35, 25, 5, 180, 0, 93, 3, 47, 43, 180, 0, 93, 21, 4, 47, 148, 154, 0, 17, 42, 25, 5]
abbrev dktX8_isSound_8 : List UInt8 := dkwX8_isSound_8 ++ dktX8_isSound_9
def dkwX8_isSound_7 : List UInt8 := [25, 5, 180, 0, 45, 158, 0, 53, 25, 5, 180, 0, 89, 3, 47, 43, 180, 0, 89, 21, 4, 47, 148]
abbrev dktX8_isSound_7 : List UInt8 := dkwX8_isSound_7 ++ dktX8_isSound_8
def dkwX8_isSound_6 : List UInt8 := [43, 180, 0, 51, 21, 4, 50, 58, 5, 29, 25, 5, 180, 0, 48, 43, 180, 0, 48, 4, 100, 160, 0, 61]
abbrev dktX8_isSound_6 : List UInt8 := dkwX8_isSound_6 ++ dktX8_isSound_7
def dkwX8_isSound_5 : List UInt8 := [43, 180, 0, 89, 21, 4, 47, 181, 0, 102, 42, 43, 180, 0, 93, 21, 4, 47, 181, 0, 105, 167, 0, 131]
abbrev dktX8_isSound_5 : List UInt8 := dkwX8_isSound_5 ++ dktX8_isSound_6
def dkwX8_isSound_4 : List UInt8 := [21, 4, 47, 184, 0, 187, 153, 0, 7, 4, 167, 0, 4, 3, 126, 62, 43, 180, 0, 48, 154, 0, 28, 42]
abbrev dktX8_isSound_4 : List UInt8 := dkwX8_isSound_4 ++ dktX8_isSound_5
def dkwX8_isSound_3 : List UInt8 := [4, 100, 47, 43, 180, 0, 93, 21, 4, 4, 100, 47, 43, 180, 0, 89, 21, 4, 47, 43, 180, 0, 93]
abbrev dktX8_isSound_3 : List UInt8 := dkwX8_isSound_3 ++ dktX8_isSound_4
def dkwX8_isSound_2 : List UInt8 := [3, 54, 4, 21, 4, 43, 180, 0, 45, 162, 0, 220, 29, 21, 4, 153, 0, 41, 43, 180, 0, 89, 21, 4]
abbrev dktX8_isSound_2 : List UInt8 := dkwX8_isSound_2 ++ dktX8_isSound_3
def dkwX8_isSound_1 : List UInt8 := [153, 0, 18, 43, 180, 0, 48, 153, 0, 11, 43, 180, 0, 45, 4, 164, 0, 7, 4, 167, 0, 4, 3, 62]
abbrev dktX8_isSound_1 : List UInt8 := dkwX8_isSound_1 ++ dktX8_isSound_2
def dkwX8_isSound_0 : List UInt8 := [43, 180, 0, 45, 16, 8, 163, 0, 38, 28, 154, 0, 11, 43, 180, 0, 45, 7, 161, 0, 26, 28]
abbrev dktX8_isSound_0 : List UInt8 := dkwX8_isSound_0 ++ dktX8_isSound_1
theorem dksX8_isSound_0 : cX8_isSound.data.toList.drop 0 = dktX8_isSound_0 := by decide +kernel
theorem dksX8_isSound_1 : cX8_isSound.data.toList.drop 22 = dktX8_isSound_1 := dk_seg dksX8_isSound_0 22 rfl rfl
theorem dksX8_isSound_2 : cX8_isSound.data.toList.drop 46 = dktX8_isSound_2 := dk_seg dksX8_isSound_1 24 rfl rfl
theorem dksX8_isSound_3 : cX8_isSound.data.toList.drop 70 = dktX8_isSound_3 := dk_seg dksX8_isSound_2 24 rfl rfl
theorem dksX8_isSound_4 : cX8_isSound.data.toList.drop 93 = dktX8_isSound_4 := dk_seg dksX8_isSound_3 23 rfl rfl
theorem dksX8_isSound_5 : cX8_isSound.data.toList.drop 117 = dktX8_isSound_5 := dk_seg dksX8_isSound_4 24 rfl rfl
theorem dksX8_isSound_6 : cX8_isSound.data.toList.drop 141 = dktX8_isSound_6 := dk_seg dksX8_isSound_5 24 rfl rfl
theorem dksX8_isSound_7 : cX8_isSound.data.toList.drop 165 = dktX8_isSound_7 := dk_seg dksX8_isSound_6 24 rfl rfl
theorem dksX8_isSound_8 : cX8_isSound.data.toList.drop 188 = dktX8_isSound_8 := dk_seg dksX8_isSound_7 23 rfl rfl
theorem dksX8_isSound_9 : cX8_isSound.data.toList.drop 212 = dktX8_isSound_9 := dk_seg dksX8_isSound_8 24 rfl rfl
theorem dksX8_isSound_10 : cX8_isSound.data.toList.drop 234 = dktX8_isSound_10 := dk_seg dksX8_isSound_9 22 rfl rfl
theorem dksX8_isSound_11 : cX8_isSound.data.toList.drop 256 = dktX8_isSound_11 := dk_seg dksX8_isSound_10 22 rfl rfl
theorem dX8_isSound_0 : decode cX8_isSound 0 = .ok (.aload_n 1, 1) := dk_43 (dk_at dksX8_isSound_0 0 rfl rfl)
theorem dX8_isSound_1 : decode cX8_isSound 1 = .ok (.getfield 45, 3) := dk_180 0 45 (dk_at dksX8_isSound_0 1 rfl rfl)
theorem dX8_isSound_4 : decode cX8_isSound 4 = .ok (.bipush 8, 2) := dk_16 8 (dk_at dksX8_isSound_0 4 rfl rfl)
theorem dX8_isSound_6 : decode cX8_isSound 6 = .ok (.if_icmp .gt 38, 3) := dk_163 0 38 (dk_at dksX8_isSound_0 6 rfl rfl)
theorem dX8_isSound_9 : decode cX8_isSound 9 = .ok (.iload_n 2, 1) := dk_28 (dk_at dksX8_isSound_0 9 rfl rfl)
theorem dX8_isSound_10 : decode cX8_isSound 10 = .ok (.ifCond .ne 11, 3) := dk_154 0 11 (dk_at dksX8_isSound_0 10 rfl rfl)
theorem dX8_isSound_13 : decode cX8_isSound 13 = .ok (.aload_n 1, 1) := dk_43 (dk_at dksX8_isSound_0 13 rfl rfl)
theorem dX8_isSound_14 : decode cX8_isSound 14 = .ok (.getfield 45, 3) := dk_180 0 45 (dk_at dksX8_isSound_0 14 rfl rfl)
theorem dX8_isSound_17 : decode cX8_isSound 17 = .ok (.iconst 4, 1) := dk_7 (dk_at dksX8_isSound_0 17 rfl rfl)
theorem dX8_isSound_18 : decode cX8_isSound 18 = .ok (.if_icmp .lt 26, 3) := dk_161 0 26 (dk_at dksX8_isSound_0 18 rfl rfl)
theorem dX8_isSound_21 : decode cX8_isSound 21 = .ok (.iload_n 2, 1) := dk_28 (dk_at dksX8_isSound_0 21 rfl rfl)
theorem dX8_isSound_22 : decode cX8_isSound 22 = .ok (.ifCond .eq 18, 3) := dk_153 0 18 (dk_at dksX8_isSound_1 0 rfl rfl)
theorem dX8_isSound_25 : decode cX8_isSound 25 = .ok (.aload_n 1, 1) := dk_43 (dk_at dksX8_isSound_1 3 rfl rfl)
theorem dX8_isSound_26 : decode cX8_isSound 26 = .ok (.getfield 48, 3) := dk_180 0 48 (dk_at dksX8_isSound_1 4 rfl rfl)
theorem dX8_isSound_29 : decode cX8_isSound 29 = .ok (.ifCond .eq 11, 3) := dk_153 0 11 (dk_at dksX8_isSound_1 7 rfl rfl)
theorem dX8_isSound_32 : decode cX8_isSound 32 = .ok (.aload_n 1, 1) := dk_43 (dk_at dksX8_isSound_1 10 rfl rfl)
theorem dX8_isSound_33 : decode cX8_isSound 33 = .ok (.getfield 45, 3) := dk_180 0 45 (dk_at dksX8_isSound_1 11 rfl rfl)
theorem dX8_isSound_36 : decode cX8_isSound 36 = .ok (.iconst 1, 1) := dk_4 (dk_at dksX8_isSound_1 14 rfl rfl)
theorem dX8_isSound_37 : decode cX8_isSound 37 = .ok (.if_icmp .le 7, 3) := dk_164 0 7 (dk_at dksX8_isSound_1 15 rfl rfl)
theorem dX8_isSound_40 : decode cX8_isSound 40 = .ok (.iconst 1, 1) := dk_4 (dk_at dksX8_isSound_1 18 rfl rfl)
theorem dX8_isSound_41 : decode cX8_isSound 41 = .ok (.goto 4, 3) := dk_167 0 4 (dk_at dksX8_isSound_1 19 rfl rfl)
theorem dX8_isSound_44 : decode cX8_isSound 44 = .ok (.iconst 0, 1) := dk_3 (dk_at dksX8_isSound_1 22 rfl rfl)
theorem dX8_isSound_45 : decode cX8_isSound 45 = .ok (.istore_n 3, 1) := dk_62 (dk_at dksX8_isSound_1 23 rfl rfl)
theorem dX8_isSound_46 : decode cX8_isSound 46 = .ok (.iconst 0, 1) := dk_3 (dk_at dksX8_isSound_2 0 rfl rfl)
theorem dX8_isSound_47 : decode cX8_isSound 47 = .ok (.istore 4, 2) := dk_54 4 (dk_at dksX8_isSound_2 1 rfl rfl)
theorem dX8_isSound_49 : decode cX8_isSound 49 = .ok (.iload 4, 2) := dk_21 4 (dk_at dksX8_isSound_2 3 rfl rfl)
theorem dX8_isSound_51 : decode cX8_isSound 51 = .ok (.aload_n 1, 1) := dk_43 (dk_at dksX8_isSound_2 5 rfl rfl)
theorem dX8_isSound_52 : decode cX8_isSound 52 = .ok (.getfield 45, 3) := dk_180 0 45 (dk_at dksX8_isSound_2 6 rfl rfl)
theorem dX8_isSound_55 : decode cX8_isSound 55 = .ok (.if_icmp .ge 220, 3) := dk_162 0 220 (dk_at dksX8_isSound_2 9 rfl rfl)
theorem dX8_isSound_58 : decode cX8_isSound 58 = .ok (.iload_n 3, 1) := dk_29 (dk_at dksX8_isSound_2 12 rfl rfl)
theorem dX8_isSound_59 : decode cX8_isSound 59 = .ok (.iload 4, 2) := dk_21 4 (dk_at dksX8_isSound_2 13 rfl rfl)
theorem dX8_isSound_61 : decode cX8_isSound 61 = .ok (.ifCond .eq 41, 3) := dk_153 0 41 (dk_at dksX8_isSound_2 15 rfl rfl)
theorem dX8_isSound_64 : decode cX8_isSound 64 = .ok (.aload_n 1, 1) := dk_43 (dk_at dksX8_isSound_2 18 rfl rfl)
theorem dX8_isSound_65 : decode cX8_isSound 65 = .ok (.getfield 89, 3) := dk_180 0 89 (dk_at dksX8_isSound_2 19 rfl rfl)
theorem dX8_isSound_68 : decode cX8_isSound 68 = .ok (.iload 4, 2) := dk_21 4 (dk_at dksX8_isSound_2 22 rfl rfl)
theorem dX8_isSound_70 : decode cX8_isSound 70 = .ok (.iconst 1, 1) := dk_4 (dk_at dksX8_isSound_3 0 rfl rfl)
theorem dX8_isSound_71 : decode cX8_isSound 71 = .ok (.isub, 1) := dk_100 (dk_at dksX8_isSound_3 1 rfl rfl)
theorem dX8_isSound_72 : decode cX8_isSound 72 = .ok (.laload, 1) := dk_47 (dk_at dksX8_isSound_3 2 rfl rfl)
theorem dX8_isSound_73 : decode cX8_isSound 73 = .ok (.aload_n 1, 1) := dk_43 (dk_at dksX8_isSound_3 3 rfl rfl)
theorem dX8_isSound_74 : decode cX8_isSound 74 = .ok (.getfield 93, 3) := dk_180 0 93 (dk_at dksX8_isSound_3 4 rfl rfl)
theorem dX8_isSound_77 : decode cX8_isSound 77 = .ok (.iload 4, 2) := dk_21 4 (dk_at dksX8_isSound_3 7 rfl rfl)
theorem dX8_isSound_79 : decode cX8_isSound 79 = .ok (.iconst 1, 1) := dk_4 (dk_at dksX8_isSound_3 9 rfl rfl)
theorem dX8_isSound_80 : decode cX8_isSound 80 = .ok (.isub, 1) := dk_100 (dk_at dksX8_isSound_3 10 rfl rfl)
theorem dX8_isSound_81 : decode cX8_isSound 81 = .ok (.laload, 1) := dk_47 (dk_at dksX8_isSound_3 11 rfl rfl)
theorem dX8_isSound_82 : decode cX8_isSound 82 = .ok (.aload_n 1, 1) := dk_43 (dk_at dksX8_isSound_3 12 rfl rfl)
theorem dX8_isSound_83 : decode cX8_isSound 83 = .ok (.getfield 89, 3) := dk_180 0 89 (dk_at dksX8_isSound_3 13 rfl rfl)
theorem dX8_isSound_86 : decode cX8_isSound 86 = .ok (.iload 4, 2) := dk_21 4 (dk_at dksX8_isSound_3 16 rfl rfl)
theorem dX8_isSound_88 : decode cX8_isSound 88 = .ok (.laload, 1) := dk_47 (dk_at dksX8_isSound_3 18 rfl rfl)
theorem dX8_isSound_89 : decode cX8_isSound 89 = .ok (.aload_n 1, 1) := dk_43 (dk_at dksX8_isSound_3 19 rfl rfl)
theorem dX8_isSound_90 : decode cX8_isSound 90 = .ok (.getfield 93, 3) := dk_180 0 93 (dk_at dksX8_isSound_3 20 rfl rfl)
theorem dX8_isSound_93 : decode cX8_isSound 93 = .ok (.iload 4, 2) := dk_21 4 (dk_at dksX8_isSound_4 0 rfl rfl)
theorem dX8_isSound_95 : decode cX8_isSound 95 = .ok (.laload, 1) := dk_47 (dk_at dksX8_isSound_4 2 rfl rfl)
theorem dX8_isSound_96 : decode cX8_isSound 96 = .ok (.invokestatic 187, 3) := dk_184 0 187 (dk_at dksX8_isSound_4 3 rfl rfl)
theorem dX8_isSound_99 : decode cX8_isSound 99 = .ok (.ifCond .eq 7, 3) := dk_153 0 7 (dk_at dksX8_isSound_4 6 rfl rfl)
theorem dX8_isSound_102 : decode cX8_isSound 102 = .ok (.iconst 1, 1) := dk_4 (dk_at dksX8_isSound_4 9 rfl rfl)
theorem dX8_isSound_103 : decode cX8_isSound 103 = .ok (.goto 4, 3) := dk_167 0 4 (dk_at dksX8_isSound_4 10 rfl rfl)
theorem dX8_isSound_106 : decode cX8_isSound 106 = .ok (.iconst 0, 1) := dk_3 (dk_at dksX8_isSound_4 13 rfl rfl)
theorem dX8_isSound_107 : decode cX8_isSound 107 = .ok (.iand, 1) := dk_126 (dk_at dksX8_isSound_4 14 rfl rfl)
theorem dX8_isSound_108 : decode cX8_isSound 108 = .ok (.istore_n 3, 1) := dk_62 (dk_at dksX8_isSound_4 15 rfl rfl)
theorem dX8_isSound_109 : decode cX8_isSound 109 = .ok (.aload_n 1, 1) := dk_43 (dk_at dksX8_isSound_4 16 rfl rfl)
theorem dX8_isSound_110 : decode cX8_isSound 110 = .ok (.getfield 48, 3) := dk_180 0 48 (dk_at dksX8_isSound_4 17 rfl rfl)
theorem dX8_isSound_113 : decode cX8_isSound 113 = .ok (.ifCond .ne 28, 3) := dk_154 0 28 (dk_at dksX8_isSound_4 20 rfl rfl)
theorem dX8_isSound_116 : decode cX8_isSound 116 = .ok (.aload_n 0, 1) := dk_42 (dk_at dksX8_isSound_4 23 rfl rfl)
theorem dX8_isSound_117 : decode cX8_isSound 117 = .ok (.aload_n 1, 1) := dk_43 (dk_at dksX8_isSound_5 0 rfl rfl)
theorem dX8_isSound_118 : decode cX8_isSound 118 = .ok (.getfield 89, 3) := dk_180 0 89 (dk_at dksX8_isSound_5 1 rfl rfl)
theorem dX8_isSound_121 : decode cX8_isSound 121 = .ok (.iload 4, 2) := dk_21 4 (dk_at dksX8_isSound_5 4 rfl rfl)
theorem dX8_isSound_123 : decode cX8_isSound 123 = .ok (.laload, 1) := dk_47 (dk_at dksX8_isSound_5 6 rfl rfl)
theorem dX8_isSound_124 : decode cX8_isSound 124 = .ok (.putfield 102, 3) := dk_181 0 102 (dk_at dksX8_isSound_5 7 rfl rfl)
theorem dX8_isSound_127 : decode cX8_isSound 127 = .ok (.aload_n 0, 1) := dk_42 (dk_at dksX8_isSound_5 10 rfl rfl)
theorem dX8_isSound_128 : decode cX8_isSound 128 = .ok (.aload_n 1, 1) := dk_43 (dk_at dksX8_isSound_5 11 rfl rfl)
theorem dX8_isSound_129 : decode cX8_isSound 129 = .ok (.getfield 93, 3) := dk_180 0 93 (dk_at dksX8_isSound_5 12 rfl rfl)
theorem dX8_isSound_132 : decode cX8_isSound 132 = .ok (.iload 4, 2) := dk_21 4 (dk_at dksX8_isSound_5 15 rfl rfl)
theorem dX8_isSound_134 : decode cX8_isSound 134 = .ok (.laload, 1) := dk_47 (dk_at dksX8_isSound_5 17 rfl rfl)
theorem dX8_isSound_135 : decode cX8_isSound 135 = .ok (.putfield 105, 3) := dk_181 0 105 (dk_at dksX8_isSound_5 18 rfl rfl)
theorem dX8_isSound_138 : decode cX8_isSound 138 = .ok (.goto 131, 3) := dk_167 0 131 (dk_at dksX8_isSound_5 21 rfl rfl)
theorem dX8_isSound_141 : decode cX8_isSound 141 = .ok (.aload_n 1, 1) := dk_43 (dk_at dksX8_isSound_6 0 rfl rfl)
theorem dX8_isSound_142 : decode cX8_isSound 142 = .ok (.getfield 51, 3) := dk_180 0 51 (dk_at dksX8_isSound_6 1 rfl rfl)
theorem dX8_isSound_145 : decode cX8_isSound 145 = .ok (.iload 4, 2) := dk_21 4 (dk_at dksX8_isSound_6 4 rfl rfl)
theorem dX8_isSound_147 : decode cX8_isSound 147 = .ok (.aaload, 1) := dk_50 (dk_at dksX8_isSound_6 6 rfl rfl)
theorem dX8_isSound_148 : decode cX8_isSound 148 = .ok (.astore 5, 2) := dk_58 5 (dk_at dksX8_isSound_6 7 rfl rfl)
theorem dX8_isSound_150 : decode cX8_isSound 150 = .ok (.iload_n 3, 1) := dk_29 (dk_at dksX8_isSound_6 9 rfl rfl)
theorem dX8_isSound_151 : decode cX8_isSound 151 = .ok (.aload 5, 2) := dk_25 5 (dk_at dksX8_isSound_6 10 rfl rfl)
theorem dX8_isSound_153 : decode cX8_isSound 153 = .ok (.getfield 48, 3) := dk_180 0 48 (dk_at dksX8_isSound_6 12 rfl rfl)
theorem dX8_isSound_156 : decode cX8_isSound 156 = .ok (.aload_n 1, 1) := dk_43 (dk_at dksX8_isSound_6 15 rfl rfl)
theorem dX8_isSound_157 : decode cX8_isSound 157 = .ok (.getfield 48, 3) := dk_180 0 48 (dk_at dksX8_isSound_6 16 rfl rfl)
theorem dX8_isSound_160 : decode cX8_isSound 160 = .ok (.iconst 1, 1) := dk_4 (dk_at dksX8_isSound_6 19 rfl rfl)
theorem dX8_isSound_161 : decode cX8_isSound 161 = .ok (.isub, 1) := dk_100 (dk_at dksX8_isSound_6 20 rfl rfl)
theorem dX8_isSound_162 : decode cX8_isSound 162 = .ok (.if_icmp .ne 61, 3) := dk_160 0 61 (dk_at dksX8_isSound_6 21 rfl rfl)
theorem dX8_isSound_165 : decode cX8_isSound 165 = .ok (.aload 5, 2) := dk_25 5 (dk_at dksX8_isSound_7 0 rfl rfl)
theorem dX8_isSound_167 : decode cX8_isSound 167 = .ok (.getfield 45, 3) := dk_180 0 45 (dk_at dksX8_isSound_7 2 rfl rfl)
theorem dX8_isSound_170 : decode cX8_isSound 170 = .ok (.ifCond .le 53, 3) := dk_158 0 53 (dk_at dksX8_isSound_7 5 rfl rfl)
theorem dX8_isSound_173 : decode cX8_isSound 173 = .ok (.aload 5, 2) := dk_25 5 (dk_at dksX8_isSound_7 8 rfl rfl)
theorem dX8_isSound_175 : decode cX8_isSound 175 = .ok (.getfield 89, 3) := dk_180 0 89 (dk_at dksX8_isSound_7 10 rfl rfl)
theorem dX8_isSound_178 : decode cX8_isSound 178 = .ok (.iconst 0, 1) := dk_3 (dk_at dksX8_isSound_7 13 rfl rfl)
theorem dX8_isSound_179 : decode cX8_isSound 179 = .ok (.laload, 1) := dk_47 (dk_at dksX8_isSound_7 14 rfl rfl)
theorem dX8_isSound_180 : decode cX8_isSound 180 = .ok (.aload_n 1, 1) := dk_43 (dk_at dksX8_isSound_7 15 rfl rfl)
theorem dX8_isSound_181 : decode cX8_isSound 181 = .ok (.getfield 89, 3) := dk_180 0 89 (dk_at dksX8_isSound_7 16 rfl rfl)
theorem dX8_isSound_184 : decode cX8_isSound 184 = .ok (.iload 4, 2) := dk_21 4 (dk_at dksX8_isSound_7 19 rfl rfl)
theorem dX8_isSound_186 : decode cX8_isSound 186 = .ok (.laload, 1) := dk_47 (dk_at dksX8_isSound_7 21 rfl rfl)
theorem dX8_isSound_187 : decode cX8_isSound 187 = .ok (.lcmp, 1) := dk_148 (dk_at dksX8_isSound_7 22 rfl rfl)
theorem dX8_isSound_188 : decode cX8_isSound 188 = .ok (.ifCond .ne 35, 3) := dk_154 0 35 (dk_at dksX8_isSound_8 0 rfl rfl)
theorem dX8_isSound_191 : decode cX8_isSound 191 = .ok (.aload 5, 2) := dk_25 5 (dk_at dksX8_isSound_8 3 rfl rfl)
theorem dX8_isSound_193 : decode cX8_isSound 193 = .ok (.getfield 93, 3) := dk_180 0 93 (dk_at dksX8_isSound_8 5 rfl rfl)
theorem dX8_isSound_196 : decode cX8_isSound 196 = .ok (.iconst 0, 1) := dk_3 (dk_at dksX8_isSound_8 8 rfl rfl)
theorem dX8_isSound_197 : decode cX8_isSound 197 = .ok (.laload, 1) := dk_47 (dk_at dksX8_isSound_8 9 rfl rfl)
theorem dX8_isSound_198 : decode cX8_isSound 198 = .ok (.aload_n 1, 1) := dk_43 (dk_at dksX8_isSound_8 10 rfl rfl)
theorem dX8_isSound_199 : decode cX8_isSound 199 = .ok (.getfield 93, 3) := dk_180 0 93 (dk_at dksX8_isSound_8 11 rfl rfl)
theorem dX8_isSound_202 : decode cX8_isSound 202 = .ok (.iload 4, 2) := dk_21 4 (dk_at dksX8_isSound_8 14 rfl rfl)
theorem dX8_isSound_204 : decode cX8_isSound 204 = .ok (.laload, 1) := dk_47 (dk_at dksX8_isSound_8 16 rfl rfl)
theorem dX8_isSound_205 : decode cX8_isSound 205 = .ok (.lcmp, 1) := dk_148 (dk_at dksX8_isSound_8 17 rfl rfl)
theorem dX8_isSound_206 : decode cX8_isSound 206 = .ok (.ifCond .ne 17, 3) := dk_154 0 17 (dk_at dksX8_isSound_8 18 rfl rfl)
theorem dX8_isSound_209 : decode cX8_isSound 209 = .ok (.aload_n 0, 1) := dk_42 (dk_at dksX8_isSound_8 21 rfl rfl)
theorem dX8_isSound_210 : decode cX8_isSound 210 = .ok (.aload 5, 2) := dk_25 5 (dk_at dksX8_isSound_8 22 rfl rfl)
theorem dX8_isSound_212 : decode cX8_isSound 212 = .ok (.iconst 0, 1) := dk_3 (dk_at dksX8_isSound_9 0 rfl rfl)
theorem dX8_isSound_213 : decode cX8_isSound 213 = .ok (.invokevirtual 191, 3) := dk_182 0 191 (dk_at dksX8_isSound_9 1 rfl rfl)
theorem dX8_isSound_216 : decode cX8_isSound 216 = .ok (.ifCond .eq 7, 3) := dk_153 0 7 (dk_at dksX8_isSound_9 4 rfl rfl)
theorem dX8_isSound_219 : decode cX8_isSound 219 = .ok (.iconst 1, 1) := dk_4 (dk_at dksX8_isSound_9 7 rfl rfl)
theorem dX8_isSound_220 : decode cX8_isSound 220 = .ok (.goto 4, 3) := dk_167 0 4 (dk_at dksX8_isSound_9 8 rfl rfl)
theorem dX8_isSound_223 : decode cX8_isSound 223 = .ok (.iconst 0, 1) := dk_3 (dk_at dksX8_isSound_9 11 rfl rfl)
theorem dX8_isSound_224 : decode cX8_isSound 224 = .ok (.iand, 1) := dk_126 (dk_at dksX8_isSound_9 12 rfl rfl)
theorem dX8_isSound_225 : decode cX8_isSound 225 = .ok (.istore_n 3, 1) := dk_62 (dk_at dksX8_isSound_9 13 rfl rfl)
theorem dX8_isSound_226 : decode cX8_isSound 226 = .ok (.iload 4, 2) := dk_21 4 (dk_at dksX8_isSound_9 14 rfl rfl)
theorem dX8_isSound_228 : decode cX8_isSound 228 = .ok (.iconst 1, 1) := dk_4 (dk_at dksX8_isSound_9 16 rfl rfl)
theorem dX8_isSound_229 : decode cX8_isSound 229 = .ok (.iadd, 1) := dk_96 (dk_at dksX8_isSound_9 17 rfl rfl)
theorem dX8_isSound_230 : decode cX8_isSound 230 = .ok (.aload_n 1, 1) := dk_43 (dk_at dksX8_isSound_9 18 rfl rfl)
theorem dX8_isSound_231 : decode cX8_isSound 231 = .ok (.getfield 45, 3) := dk_180 0 45 (dk_at dksX8_isSound_9 19 rfl rfl)
theorem dX8_isSound_234 : decode cX8_isSound 234 = .ok (.if_icmp .ge 35, 3) := dk_162 0 35 (dk_at dksX8_isSound_10 0 rfl rfl)
theorem dX8_isSound_237 : decode cX8_isSound 237 = .ok (.iload_n 3, 1) := dk_29 (dk_at dksX8_isSound_10 3 rfl rfl)
theorem dX8_isSound_238 : decode cX8_isSound 238 = .ok (.aload_n 0, 1) := dk_42 (dk_at dksX8_isSound_10 4 rfl rfl)
theorem dX8_isSound_239 : decode cX8_isSound 239 = .ok (.getfield 102, 3) := dk_180 0 102 (dk_at dksX8_isSound_10 5 rfl rfl)
theorem dX8_isSound_242 : decode cX8_isSound 242 = .ok (.aload_n 0, 1) := dk_42 (dk_at dksX8_isSound_10 8 rfl rfl)
theorem dX8_isSound_243 : decode cX8_isSound 243 = .ok (.getfield 105, 3) := dk_180 0 105 (dk_at dksX8_isSound_10 9 rfl rfl)
theorem dX8_isSound_246 : decode cX8_isSound 246 = .ok (.aload_n 1, 1) := dk_43 (dk_at dksX8_isSound_10 12 rfl rfl)
theorem dX8_isSound_247 : decode cX8_isSound 247 = .ok (.getfield 89, 3) := dk_180 0 89 (dk_at dksX8_isSound_10 13 rfl rfl)
theorem dX8_isSound_250 : decode cX8_isSound 250 = .ok (.iload 4, 2) := dk_21 4 (dk_at dksX8_isSound_10 16 rfl rfl)
theorem dX8_isSound_252 : decode cX8_isSound 252 = .ok (.iconst 1, 1) := dk_4 (dk_at dksX8_isSound_10 18 rfl rfl)
theorem dX8_isSound_253 : decode cX8_isSound 253 = .ok (.iadd, 1) := dk_96 (dk_at dksX8_isSound_10 19 rfl rfl)
theorem dX8_isSound_254 : decode cX8_isSound 254 = .ok (.laload, 1) := dk_47 (dk_at dksX8_isSound_10 20 rfl rfl)
theorem dX8_isSound_255 : decode cX8_isSound 255 = .ok (.aload_n 1, 1) := dk_43 (dk_at dksX8_isSound_10 21 rfl rfl)
theorem dX8_isSound_256 : decode cX8_isSound 256 = .ok (.getfield 93, 3) := dk_180 0 93 (dk_at dksX8_isSound_11 0 rfl rfl)
theorem dX8_isSound_259 : decode cX8_isSound 259 = .ok (.iload 4, 2) := dk_21 4 (dk_at dksX8_isSound_11 3 rfl rfl)
theorem dX8_isSound_261 : decode cX8_isSound 261 = .ok (.iconst 1, 1) := dk_4 (dk_at dksX8_isSound_11 5 rfl rfl)
theorem dX8_isSound_262 : decode cX8_isSound 262 = .ok (.iadd, 1) := dk_96 (dk_at dksX8_isSound_11 6 rfl rfl)
theorem dX8_isSound_263 : decode cX8_isSound 263 = .ok (.laload, 1) := dk_47 (dk_at dksX8_isSound_11 7 rfl rfl)
theorem dX8_isSound_264 : decode cX8_isSound 264 = .ok (.invokestatic 187, 3) := dk_184 0 187 (dk_at dksX8_isSound_11 8 rfl rfl)
theorem dX8_isSound_267 : decode cX8_isSound 267 = .ok (.iand, 1) := dk_126 (dk_at dksX8_isSound_11 11 rfl rfl)
theorem dX8_isSound_268 : decode cX8_isSound 268 = .ok (.istore_n 3, 1) := dk_62 (dk_at dksX8_isSound_11 12 rfl rfl)
theorem dX8_isSound_269 : decode cX8_isSound 269 = .ok (.iinc 4 1, 3) := dk_132 4 1 (dk_at dksX8_isSound_11 13 rfl rfl)
theorem dX8_isSound_272 : decode cX8_isSound 272 = .ok (.goto (-223), 3) := dk_167 255 33 (dk_at dksX8_isSound_11 16 rfl rfl)
theorem dX8_isSound_275 : decode cX8_isSound 275 = .ok (.iload_n 3, 1) := dk_29 (dk_at dksX8_isSound_11 19 rfl rfl)
theorem dX8_isSound_276 : decode cX8_isSound 276 = .ok (.ireturn, 1) := dk_172 (dk_at dksX8_isSound_11 20 rfl rfl)
theorem q139 : (Jvm.Cond.initialized "NandHouse$Index") ∈ lw_all := lw_g (lw_at lw_m1 9 rfl) rfl
theorem q346 : (Jvm.Cond.fieldLink "NandHouse$Index" (74 : Nat) "NandHouse$Space" "live" "[I") ∈ lw_all := lw_g (lw_at lw_m1 216 rfl) rfl
theorem q371 : (Jvm.Cond.instantiable "NandHouse$Index" (14 : Nat)) ∈ lw_all := lw_g (lw_at lw_m2 1 rfl) rfl
theorem q373 : (Jvm.Cond.instanceMethod ({ cls := "NandHouse$Index", name := "<init>", desc := "(LNandHouse$Space;)V" } : Jvm.MethodName)) ∈ lw_all := lw_g (lw_at lw_m2 3 rfl) rfl
theorem q374 : (Jvm.Cond.code ({ cls := "NandHouse$Index", name := "<init>", desc := "(LNandHouse$Space;)V" } : Jvm.MethodName) prog_4_method_1_code (3 : Nat) (Option.none : Option Jvm.ClassFile.FieldType)) ∈ lw_all := lw_g (lw_at lw_m2 4 rfl) rfl
theorem q375 : (Jvm.Cond.methodLink "NandHouse$Index" (3 : Nat) ({ cls := "java/lang/Object", name := "<init>", desc := "()V" } : Jvm.MethodName)) ∈ lw_all := lw_g (lw_at lw_m2 5 rfl) rfl
theorem q376 : (Jvm.Cond.classLink "NandHouse$Index" (11 : Nat) "NandHouse$Knot") ∈ lw_all := lw_g (lw_at lw_m2 6 rfl) rfl
theorem q378 : (Jvm.Cond.methodLinkNest "NandHouse$Index" (28 : Nat) ({ cls := "NandHouse$Knot", name := "<init>", desc := "()V" } : Jvm.MethodName) "NandHouse") ∈ lw_tbl := lw_at lw_m2 8 rfl
theorem q384 : (Jvm.Cond.fieldLink "NandHouse$Index" (48 : Nat) "NandHouse$Knot" "level" "I") ∈ lw_all := lw_g (lw_at lw_m2 14 rfl) rfl
theorem q387 : (Jvm.Cond.fieldLink "NandHouse$Index" (45 : Nat) "NandHouse$Knot" "count" "I") ∈ lw_all := lw_g (lw_at lw_m2 17 rfl) rfl
theorem q390 : (Jvm.Cond.fieldLink "NandHouse$Index" (89 : Nat) "NandHouse$Knot" "high" "[J") ∈ lw_all := lw_g (lw_at lw_m2 20 rfl) rfl
theorem q393 : (Jvm.Cond.fieldLink "NandHouse$Index" (93 : Nat) "NandHouse$Knot" "low" "[J") ∈ lw_all := lw_g (lw_at lw_m2 23 rfl) rfl
theorem q396 : (Jvm.Cond.fieldLink "NandHouse$Index" (107 : Nat) "NandHouse$Knot" "number" "[I") ∈ lw_all := lw_g (lw_at lw_m2 26 rfl) rfl
theorem q399 : (Jvm.Cond.fieldLink "NandHouse$Index" (112 : Nat) "NandHouse$Knot" "place" "[I") ∈ lw_all := lw_g (lw_at lw_m2 29 rfl) rfl
theorem q402 : (Jvm.Cond.fieldLink "NandHouse$Index" (117 : Nat) "NandHouse$Knot" "size" "[I") ∈ lw_all := lw_g (lw_at lw_m2 32 rfl) rfl
theorem q405 : (Jvm.Cond.fieldLink "NandHouse$Index" (51 : Nat) "NandHouse$Knot" "below" "[LNandHouse$Knot;") ∈ lw_all := lw_g (lw_at lw_m2 35 rfl) rfl
theorem q408 : (Jvm.Cond.fieldLink "NandHouse$Index" (64 : Nat) "NandHouse$Knot" "fresh" "Z") ∈ lw_all := lw_g (lw_at lw_m2 38 rfl) rfl
theorem q411 : (Jvm.Cond.fieldLink "NandHouse$Index" (68 : Nat) "NandHouse$Knot" "ownNumber" "I") ∈ lw_all := lw_g (lw_at lw_m2 41 rfl) rfl
theorem q414 : (Jvm.Cond.fieldLink "NandHouse$Index" (170 : Nat) "NandHouse$Knot" "ownPlace" "I") ∈ lw_all := lw_g (lw_at lw_m2 44 rfl) rfl
theorem q415 : (Jvm.Cond.fieldLink "NandHouse$Index" (71 : Nat) "NandHouse$Knot" "ownSize" "I") ∈ lw_all := lw_g (lw_at lw_m2 45 rfl) rfl
theorem q442 : (Jvm.Cond.fieldLink "NandHouse$Index" (24 : Nat) "NandHouse$Index" "space" "LNandHouse$Space;") ∈ lw_all := lw_g (lw_at lw_m2 72 rfl) rfl
theorem q443 : (Jvm.Cond.fieldLink "NandHouse$Index" (13 : Nat) "NandHouse$Index" "pool" "[LNandHouse$Knot;") ∈ lw_all := lw_g (lw_at lw_m2 73 rfl) rfl
theorem q444 : (Jvm.Cond.fieldLink "NandHouse$Index" (54 : Nat) "NandHouse$Index" "free" "I") ∈ lw_all := lw_g (lw_at lw_m2 74 rfl) rfl
theorem q445 : (Jvm.Cond.fieldLink "NandHouse$Index" (29 : Nat) "NandHouse$Index" "root" "LNandHouse$Knot;") ∈ lw_all := lw_g (lw_at lw_m2 75 rfl) rfl
theorem q447 : (Jvm.Cond.fieldLink "NandHouse$Index" (17 : Nat) "NandHouse$Index" "oldNumber" "[I") ∈ lw_all := lw_g (lw_at lw_m2 77 rfl) rfl
theorem q449 : (Jvm.Cond.fieldLink "NandHouse$Index" (21 : Nat) "NandHouse$Index" "oldSize" "[I") ∈ lw_all := lw_g (lw_at lw_m2 79 rfl) rfl
theorem q451 : (Jvm.Cond.fieldLink "NandHouse$Index" (37 : Nat) "NandHouse$Index" "olds" "I") ∈ lw_all := lw_g (lw_at lw_m2 81 rfl) rfl
theorem q453 : (Jvm.Cond.fieldLink "NandHouse$Index" (102 : Nat) "NandHouse$Index" "high" "J") ∈ lw_all := lw_g (lw_at lw_m2 83 rfl) rfl
theorem q456 : (Jvm.Cond.fieldLink "NandHouse$Index" (105 : Nat) "NandHouse$Index" "low" "J") ∈ lw_all := lw_g (lw_at lw_m2 86 rfl) rfl
theorem q459 : (Jvm.Cond.fieldLink "NandHouse$Index" (110 : Nat) "NandHouse$Index" "number" "I") ∈ lw_all := lw_g (lw_at lw_m2 89 rfl) rfl
theorem q462 : (Jvm.Cond.fieldLink "NandHouse$Index" (115 : Nat) "NandHouse$Index" "place" "I") ∈ lw_all := lw_g (lw_at lw_m2 92 rfl) rfl
theorem q465 : (Jvm.Cond.fieldLink "NandHouse$Index" (120 : Nat) "NandHouse$Index" "size" "I") ∈ lw_all := lw_g (lw_at lw_m2 95 rfl) rfl
theorem q468 : (Jvm.Cond.fieldLink "NandHouse$Index" (96 : Nat) "NandHouse$Index" "leaf" "LNandHouse$Knot;") ∈ lw_all := lw_g (lw_at lw_m2 98 rfl) rfl
theorem q469 : (Jvm.Cond.fieldLink "NandHouse$Index" (99 : Nat) "NandHouse$Index" "at" "I") ∈ lw_all := lw_g (lw_at lw_m2 99 rfl) rfl
theorem q470 : (Jvm.Cond.laysFinal "NandHouse$Index" "NandHouse$Index" "space" "LNandHouse$Space;") ∈ lw_all := lw_g (lw_at lw_m2 100 rfl) rfl
theorem q471 : (Jvm.Cond.soleField "NandHouse$Index" "space") ∈ lw_all := lw_g (lw_at lw_m2 101 rfl) rfl
theorem q472 : (Jvm.Cond.laysFinal "NandHouse$Index" "NandHouse$Index" "pool" "[LNandHouse$Knot;") ∈ lw_all := lw_g (lw_at lw_m2 102 rfl) rfl
theorem q473 : (Jvm.Cond.soleField "NandHouse$Index" "pool") ∈ lw_all := lw_g (lw_at lw_m2 103 rfl) rfl
theorem q474 : (Jvm.Cond.lays "NandHouse$Index" "NandHouse$Index" "free" "I") ∈ lw_all := lw_g (lw_at lw_m2 104 rfl) rfl
theorem q475 : (Jvm.Cond.soleField "NandHouse$Index" "free") ∈ lw_all := lw_g (lw_at lw_m2 105 rfl) rfl
theorem q476 : (Jvm.Cond.lays "NandHouse$Index" "NandHouse$Index" "root" "LNandHouse$Knot;") ∈ lw_all := lw_g (lw_at lw_m2 106 rfl) rfl
theorem q477 : (Jvm.Cond.soleField "NandHouse$Index" "root") ∈ lw_all := lw_g (lw_at lw_m2 107 rfl) rfl
theorem q478 : (Jvm.Cond.laysFinal "NandHouse$Index" "NandHouse$Index" "oldNumber" "[I") ∈ lw_all := lw_g (lw_at lw_m2 108 rfl) rfl
theorem q479 : (Jvm.Cond.soleField "NandHouse$Index" "oldNumber") ∈ lw_all := lw_g (lw_at lw_m2 109 rfl) rfl
theorem q480 : (Jvm.Cond.laysFinal "NandHouse$Index" "NandHouse$Index" "oldSize" "[I") ∈ lw_all := lw_g (lw_at lw_m2 110 rfl) rfl
theorem q481 : (Jvm.Cond.soleField "NandHouse$Index" "oldSize") ∈ lw_all := lw_g (lw_at lw_m2 111 rfl) rfl
theorem q482 : (Jvm.Cond.lays "NandHouse$Index" "NandHouse$Index" "olds" "I") ∈ lw_all := lw_g (lw_at lw_m2 112 rfl) rfl
theorem q483 : (Jvm.Cond.soleField "NandHouse$Index" "olds") ∈ lw_all := lw_g (lw_at lw_m2 113 rfl) rfl
theorem q484 : (Jvm.Cond.lays "NandHouse$Index" "NandHouse$Index" "high" "J") ∈ lw_all := lw_g (lw_at lw_m2 114 rfl) rfl
theorem q485 : (Jvm.Cond.soleField "NandHouse$Index" "high") ∈ lw_all := lw_g (lw_at lw_m2 115 rfl) rfl
theorem q486 : (Jvm.Cond.lays "NandHouse$Index" "NandHouse$Index" "low" "J") ∈ lw_all := lw_g (lw_at lw_m2 116 rfl) rfl
theorem q487 : (Jvm.Cond.soleField "NandHouse$Index" "low") ∈ lw_all := lw_g (lw_at lw_m2 117 rfl) rfl
theorem q488 : (Jvm.Cond.lays "NandHouse$Index" "NandHouse$Index" "number" "I") ∈ lw_all := lw_g (lw_at lw_m2 118 rfl) rfl
theorem q489 : (Jvm.Cond.soleField "NandHouse$Index" "number") ∈ lw_all := lw_g (lw_at lw_m2 119 rfl) rfl
theorem q490 : (Jvm.Cond.lays "NandHouse$Index" "NandHouse$Index" "place" "I") ∈ lw_all := lw_g (lw_at lw_m2 120 rfl) rfl
theorem q491 : (Jvm.Cond.soleField "NandHouse$Index" "place") ∈ lw_all := lw_g (lw_at lw_m2 121 rfl) rfl
theorem q492 : (Jvm.Cond.lays "NandHouse$Index" "NandHouse$Index" "size" "I") ∈ lw_all := lw_g (lw_at lw_m2 122 rfl) rfl
theorem q493 : (Jvm.Cond.soleField "NandHouse$Index" "size") ∈ lw_all := lw_g (lw_at lw_m2 123 rfl) rfl
theorem q494 : (Jvm.Cond.lays "NandHouse$Index" "NandHouse$Index" "leaf" "LNandHouse$Knot;") ∈ lw_all := lw_g (lw_at lw_m2 124 rfl) rfl
theorem q495 : (Jvm.Cond.soleField "NandHouse$Index" "leaf") ∈ lw_all := lw_g (lw_at lw_m2 125 rfl) rfl
theorem q496 : (Jvm.Cond.lays "NandHouse$Index" "NandHouse$Index" "at" "I") ∈ lw_all := lw_g (lw_at lw_m2 126 rfl) rfl
theorem q497 : (Jvm.Cond.soleField "NandHouse$Index" "at") ∈ lw_all := lw_g (lw_at lw_m2 127 rfl) rfl
theorem q498 : (Jvm.Cond.superclass "NandHouse$Index" "java/lang/Object") ∈ lw_all := lw_g (lw_at lw_m2 128 rfl) rfl
theorem q721 : (Jvm.Cond.instanceMethod ({ cls := "NandHouse$Index", name := "clear", desc := "()V" } : Jvm.MethodName)) ∈ lw_all := lw_g (lw_at lw_m3 111 rfl) rfl
theorem q722 : (Jvm.Cond.selects "NandHouse$Index" ({ cls := "NandHouse$Index", name := "clear", desc := "()V" } : Jvm.MethodName) ({ cls := "NandHouse$Index", name := "clear", desc := "()V" } : Jvm.MethodName)) ∈ lw_all := lw_g (lw_at lw_m3 112 rfl) rfl
theorem q723 : (Jvm.Cond.code ({ cls := "NandHouse$Index", name := "clear", desc := "()V" } : Jvm.MethodName) prog_4_method_2_code (1 : Nat) (Option.none : Option Jvm.ClassFile.FieldType)) ∈ lw_all := lw_g (lw_at lw_m3 113 rfl) rfl
theorem q724 : (Jvm.Cond.methodLink "NandHouse$Index" (33 : Nat) ({ cls := "NandHouse$Index", name := "giveAll", desc := "(LNandHouse$Knot;)V" } : Jvm.MethodName)) ∈ lw_all := lw_g (lw_at lw_m3 114 rfl) rfl
theorem q725 : (Jvm.Cond.privateMethod ({ cls := "NandHouse$Index", name := "giveAll", desc := "(LNandHouse$Knot;)V" } : Jvm.MethodName)) ∈ lw_tbl := lw_at lw_m3 115 rfl
theorem q726 : (Jvm.Cond.instanceMethod ({ cls := "NandHouse$Index", name := "giveAll", desc := "(LNandHouse$Knot;)V" } : Jvm.MethodName)) ∈ lw_all := lw_g (lw_at lw_m3 116 rfl) rfl
theorem q727 : (Jvm.Cond.code ({ cls := "NandHouse$Index", name := "giveAll", desc := "(LNandHouse$Knot;)V" } : Jvm.MethodName) prog_4_method_4_code (3 : Nat) (Option.none : Option Jvm.ClassFile.FieldType)) ∈ lw_all := lw_g (lw_at lw_m3 117 rfl) rfl
theorem q728 : (Jvm.Cond.methodLink "NandHouse$Index" (41 : Nat) ({ cls := "NandHouse$Index", name := "fetch", desc := "(I)LNandHouse$Knot;" } : Jvm.MethodName)) ∈ lw_all := lw_g (lw_at lw_m3 118 rfl) rfl
theorem q729 : (Jvm.Cond.instanceMethod ({ cls := "NandHouse$Index", name := "fetch", desc := "(I)LNandHouse$Knot;" } : Jvm.MethodName)) ∈ lw_all := lw_g (lw_at lw_m3 119 rfl) rfl
theorem q730 : (Jvm.Cond.selects "NandHouse$Index" ({ cls := "NandHouse$Index", name := "fetch", desc := "(I)LNandHouse$Knot;" } : Jvm.MethodName) ({ cls := "NandHouse$Index", name := "fetch", desc := "(I)LNandHouse$Knot;" } : Jvm.MethodName)) ∈ lw_all := lw_g (lw_at lw_m3 120 rfl) rfl
theorem q731 : (Jvm.Cond.code ({ cls := "NandHouse$Index", name := "fetch", desc := "(I)LNandHouse$Knot;" } : Jvm.MethodName) prog_4_method_5_code (3 : Nat) (Option.some (Jvm.ClassFile.FieldType.object "NandHouse$Knot"))) ∈ lw_all := lw_g (lw_at lw_m3 121 rfl) rfl
theorem q732 : (Jvm.Cond.methodLink "NandHouse$Index" (57 : Nat) ({ cls := "NandHouse$Knot", name := "begin", desc := "(I)V" } : Jvm.MethodName)) ∈ lw_all := lw_g (lw_at lw_m3 122 rfl) rfl
theorem q898 : (Jvm.Cond.instanceMethod ({ cls := "NandHouse$Index", name := "put", desc := "(JJIII)V" } : Jvm.MethodName)) ∈ lw_all := lw_g (lw_at lw_m4 48 rfl) rfl
theorem q899 : (Jvm.Cond.selects "NandHouse$Index" ({ cls := "NandHouse$Index", name := "put", desc := "(JJIII)V" } : Jvm.MethodName) ({ cls := "NandHouse$Index", name := "put", desc := "(JJIII)V" } : Jvm.MethodName)) ∈ lw_all := lw_g (lw_at lw_m4 49 rfl) rfl
theorem q900 : (Jvm.Cond.code ({ cls := "NandHouse$Index", name := "put", desc := "(JJIII)V" } : Jvm.MethodName) prog_4_method_12_code (10 : Nat) (Option.none : Option Jvm.ClassFile.FieldType)) ∈ lw_all := lw_g (lw_at lw_m4 50 rfl) rfl
theorem q901 : (Jvm.Cond.methodLink "NandHouse$Index" (128 : Nat) ({ cls := "NandHouse$Index", name := "find", desc := "(JJ)Z" } : Jvm.MethodName)) ∈ lw_all := lw_g (lw_at lw_m4 51 rfl) rfl
theorem q902 : (Jvm.Cond.instanceMethod ({ cls := "NandHouse$Index", name := "find", desc := "(JJ)Z" } : Jvm.MethodName)) ∈ lw_all := lw_g (lw_at lw_m4 52 rfl) rfl
theorem q903 : (Jvm.Cond.selects "NandHouse$Index" ({ cls := "NandHouse$Index", name := "find", desc := "(JJ)Z" } : Jvm.MethodName) ({ cls := "NandHouse$Index", name := "find", desc := "(JJ)Z" } : Jvm.MethodName)) ∈ lw_all := lw_g (lw_at lw_m4 53 rfl) rfl
theorem q904 : (Jvm.Cond.code ({ cls := "NandHouse$Index", name := "find", desc := "(JJ)Z" } : Jvm.MethodName) prog_4_method_10_code (5 : Nat) (Option.some Jvm.ClassFile.FieldType.boolean)) ∈ lw_all := lw_g (lw_at lw_m4 54 rfl) rfl
theorem q905 : (Jvm.Cond.methodLink "NandHouse$Index" (122 : Nat) ({ cls := "NandHouse$Index", name := "seek", desc := "(JJ)Z" } : Jvm.MethodName)) ∈ lw_all := lw_g (lw_at lw_m4 55 rfl) rfl
theorem q906 : (Jvm.Cond.instanceMethod ({ cls := "NandHouse$Index", name := "seek", desc := "(JJ)Z" } : Jvm.MethodName)) ∈ lw_all := lw_g (lw_at lw_m4 56 rfl) rfl
theorem q907 : (Jvm.Cond.selects "NandHouse$Index" ({ cls := "NandHouse$Index", name := "seek", desc := "(JJ)Z" } : Jvm.MethodName) ({ cls := "NandHouse$Index", name := "seek", desc := "(JJ)Z" } : Jvm.MethodName)) ∈ lw_all := lw_g (lw_at lw_m4 57 rfl) rfl
theorem q908 : (Jvm.Cond.code ({ cls := "NandHouse$Index", name := "seek", desc := "(JJ)Z" } : Jvm.MethodName) prog_4_method_9_code (8 : Nat) (Option.some Jvm.ClassFile.FieldType.boolean)) ∈ lw_all := lw_g (lw_at lw_m4 58 rfl) rfl
theorem q909 : (Jvm.Cond.methodLink "NandHouse$Index" (79 : Nat) ({ cls := "NandHouse$Knot", name := "slot", desc := "(JJ)I" } : Jvm.MethodName)) ∈ lw_all := lw_g (lw_at lw_m4 59 rfl) rfl
theorem q923 : (Jvm.Cond.methodLink "NandHouse$Index" (83 : Nat) ({ cls := "java/lang/Math", name := "max", desc := "(II)I" } : Jvm.MethodName)) ∈ lw_all := lw_g (lw_at lw_m4 73 rfl) rfl
theorem q926 : (Jvm.Cond.methodLink "NandHouse$Index" (131 : Nat) ({ cls := "NandHouse$Index", name := "touchWay", desc := "(JJ)V" } : Jvm.MethodName)) ∈ lw_all := lw_g (lw_at lw_m4 76 rfl) rfl
theorem q927 : (Jvm.Cond.privateMethod ({ cls := "NandHouse$Index", name := "touchWay", desc := "(JJ)V" } : Jvm.MethodName)) ∈ lw_tbl := lw_at lw_m4 77 rfl
theorem q928 : (Jvm.Cond.instanceMethod ({ cls := "NandHouse$Index", name := "touchWay", desc := "(JJ)V" } : Jvm.MethodName)) ∈ lw_all := lw_g (lw_at lw_m4 78 rfl) rfl
theorem q929 : (Jvm.Cond.code ({ cls := "NandHouse$Index", name := "touchWay", desc := "(JJ)V" } : Jvm.MethodName) prog_4_method_13_code (6 : Nat) (Option.none : Option Jvm.ClassFile.FieldType)) ∈ lw_all := lw_g (lw_at lw_m4 79 rfl) rfl
theorem q930 : (Jvm.Cond.methodLink "NandHouse$Index" (61 : Nat) ({ cls := "NandHouse$Index", name := "touch", desc := "(LNandHouse$Knot;)V" } : Jvm.MethodName)) ∈ lw_all := lw_g (lw_at lw_m4 80 rfl) rfl
theorem q931 : (Jvm.Cond.privateMethod ({ cls := "NandHouse$Index", name := "touch", desc := "(LNandHouse$Knot;)V" } : Jvm.MethodName)) ∈ lw_tbl := lw_at lw_m4 81 rfl
theorem q932 : (Jvm.Cond.instanceMethod ({ cls := "NandHouse$Index", name := "touch", desc := "(LNandHouse$Knot;)V" } : Jvm.MethodName)) ∈ lw_all := lw_g (lw_at lw_m4 82 rfl) rfl
theorem q933 : (Jvm.Cond.code ({ cls := "NandHouse$Index", name := "touch", desc := "(LNandHouse$Knot;)V" } : Jvm.MethodName) prog_4_method_7_code (2 : Nat) (Option.none : Option Jvm.ClassFile.FieldType)) ∈ lw_all := lw_g (lw_at lw_m4 83 rfl) rfl
theorem q934 : (Jvm.Cond.methodLink "NandHouse$Index" (135 : Nat) ({ cls := "NandHouse$Index", name := "insert", desc := "(LNandHouse$Knot;JJ)LNandHouse$Knot;" } : Jvm.MethodName)) ∈ lw_all := lw_g (lw_at lw_m4 84 rfl) rfl
theorem q935 : (Jvm.Cond.privateMethod ({ cls := "NandHouse$Index", name := "insert", desc := "(LNandHouse$Knot;JJ)LNandHouse$Knot;" } : Jvm.MethodName)) ∈ lw_tbl := lw_at lw_m4 85 rfl
theorem q936 : (Jvm.Cond.instanceMethod ({ cls := "NandHouse$Index", name := "insert", desc := "(LNandHouse$Knot;JJ)LNandHouse$Knot;" } : Jvm.MethodName)) ∈ lw_all := lw_g (lw_at lw_m4 86 rfl) rfl
theorem q937 : (Jvm.Cond.code ({ cls := "NandHouse$Index", name := "insert", desc := "(LNandHouse$Knot;JJ)LNandHouse$Knot;" } : Jvm.MethodName) prog_4_method_15_code (9 : Nat) (Option.some (Jvm.ClassFile.FieldType.object "NandHouse$Knot"))) ∈ lw_all := lw_g (lw_at lw_m4 87 rfl) rfl
theorem q938 : (Jvm.Cond.methodLink "NandHouse$Index" (146 : Nat) ({ cls := "NandHouse$Knot", name := "part", desc := "(I)V" } : Jvm.MethodName)) ∈ lw_all := lw_g (lw_at lw_m4 88 rfl) rfl
theorem q946 : (Jvm.Cond.methodLink "NandHouse$Index" (142 : Nat) ({ cls := "NandHouse$Knot", name := "set", desc := "(IJJLNandHouse$Knot;)V" } : Jvm.MethodName)) ∈ lw_all := lw_g (lw_at lw_m4 96 rfl) rfl
theorem q950 : (Jvm.Cond.methodLink "NandHouse$Index" (149 : Nat) ({ cls := "NandHouse$Index", name := "halve", desc := "(LNandHouse$Knot;)LNandHouse$Knot;" } : Jvm.MethodName)) ∈ lw_all := lw_g (lw_at lw_m4 100 rfl) rfl
theorem q951 : (Jvm.Cond.privateMethod ({ cls := "NandHouse$Index", name := "halve", desc := "(LNandHouse$Knot;)LNandHouse$Knot;" } : Jvm.MethodName)) ∈ lw_tbl := lw_at lw_m4 101 rfl
theorem q952 : (Jvm.Cond.instanceMethod ({ cls := "NandHouse$Index", name := "halve", desc := "(LNandHouse$Knot;)LNandHouse$Knot;" } : Jvm.MethodName)) ∈ lw_all := lw_g (lw_at lw_m4 102 rfl) rfl
theorem q953 : (Jvm.Cond.code ({ cls := "NandHouse$Index", name := "halve", desc := "(LNandHouse$Knot;)LNandHouse$Knot;" } : Jvm.MethodName) prog_4_method_16_code (5 : Nat) (Option.some (Jvm.ClassFile.FieldType.object "NandHouse$Knot"))) ∈ lw_all := lw_g (lw_at lw_m4 103 rfl) rfl
theorem q954 : (Jvm.Cond.methodLink "NandHouse$Index" (153 : Nat) ({ cls := "NandHouse$Knot", name := "take", desc := "(ILNandHouse$Knot;I)V" } : Jvm.MethodName)) ∈ lw_all := lw_g (lw_at lw_m4 104 rfl) rfl
theorem q955 : (Jvm.Cond.methodLink "NandHouse$Index" (139 : Nat) ({ cls := "NandHouse$Index", name := "grow", desc := "(LNandHouse$Knot;)V" } : Jvm.MethodName)) ∈ lw_all := lw_g (lw_at lw_m4 105 rfl) rfl
theorem q956 : (Jvm.Cond.privateMethod ({ cls := "NandHouse$Index", name := "grow", desc := "(LNandHouse$Knot;)V" } : Jvm.MethodName)) ∈ lw_tbl := lw_at lw_m4 106 rfl
theorem q957 : (Jvm.Cond.instanceMethod ({ cls := "NandHouse$Index", name := "grow", desc := "(LNandHouse$Knot;)V" } : Jvm.MethodName)) ∈ lw_all := lw_g (lw_at lw_m4 107 rfl) rfl
theorem q958 : (Jvm.Cond.code ({ cls := "NandHouse$Index", name := "grow", desc := "(LNandHouse$Knot;)V" } : Jvm.MethodName) prog_4_method_14_code (3 : Nat) (Option.none : Option Jvm.ClassFile.FieldType)) ∈ lw_all := lw_g (lw_at lw_m4 108 rfl) rfl
theorem q976 : (Jvm.Cond.static ({ cls := "NandHouse$Index", name := "sizeOf", desc := "(LNandHouse$Knot;)I" } : Jvm.MethodName)) ∈ lw_all := lw_g (lw_at lw_m4 126 rfl) rfl
theorem q977 : (Jvm.Cond.code ({ cls := "NandHouse$Index", name := "sizeOf", desc := "(LNandHouse$Knot;)I" } : Jvm.MethodName) prog_4_method_23_code (1 : Nat) (Option.some Jvm.ClassFile.FieldType.int)) ∈ lw_all := lw_g (lw_at lw_m4 127 rfl) rfl
theorem q978 : (Jvm.Cond.methodLinkNest "NandHouse$Index" (183 : Nat) ({ cls := "NandHouse", name := "eights", desc := "(I)I" } : Jvm.MethodName) "NandHouse") ∈ lw_tbl := lw_at lw_m4 128 rfl
theorem q1004 : (Jvm.Cond.instanceMethod ({ cls := "NandHouse$Index", name := "written", desc := "()V" } : Jvm.MethodName)) ∈ lw_all := lw_g (lw_at lw_m4 154 rfl) rfl
theorem q1005 : (Jvm.Cond.selects "NandHouse$Index" ({ cls := "NandHouse$Index", name := "written", desc := "()V" } : Jvm.MethodName) ({ cls := "NandHouse$Index", name := "written", desc := "()V" } : Jvm.MethodName)) ∈ lw_all := lw_g (lw_at lw_m4 155 rfl) rfl
theorem q1006 : (Jvm.Cond.code ({ cls := "NandHouse$Index", name := "written", desc := "()V" } : Jvm.MethodName) prog_4_method_8_code (2 : Nat) (Option.none : Option Jvm.ClassFile.FieldType)) ∈ lw_all := lw_g (lw_at lw_m4 156 rfl) rfl
theorem q1042 : (Jvm.Cond.instanceMethod ({ cls := "NandHouse$Index", name := "freshBytes", desc := "(LNandHouse$Knot;)I" } : Jvm.MethodName)) ∈ lw_all := lw_g (lw_at lw_m4 192 rfl) rfl
theorem q1043 : (Jvm.Cond.selects "NandHouse$Index" ({ cls := "NandHouse$Index", name := "freshBytes", desc := "(LNandHouse$Knot;)I" } : Jvm.MethodName) ({ cls := "NandHouse$Index", name := "freshBytes", desc := "(LNandHouse$Knot;)I" } : Jvm.MethodName)) ∈ lw_all := lw_g (lw_at lw_m4 193 rfl) rfl
theorem q1044 : (Jvm.Cond.code ({ cls := "NandHouse$Index", name := "freshBytes", desc := "(LNandHouse$Knot;)I" } : Jvm.MethodName) prog_4_method_21_code (4 : Nat) (Option.some Jvm.ClassFile.FieldType.int)) ∈ lw_all := lw_g (lw_at lw_m4 194 rfl) rfl
theorem q1045 : (Jvm.Cond.methodLink "NandHouse$Index" (173 : Nat) ({ cls := "NandHouse$Index", name := "sizeOf", desc := "(LNandHouse$Knot;)I" } : Jvm.MethodName)) ∈ lw_all := lw_g (lw_at lw_m4 195 rfl) rfl
theorem q1046 : (Jvm.Cond.methodLink "NandHouse$Index" (177 : Nat) ({ cls := "NandHouse$Index", name := "freshBytes", desc := "(LNandHouse$Knot;)I" } : Jvm.MethodName)) ∈ lw_all := lw_g (lw_at lw_m4 196 rfl) rfl
theorem q1048 : (Jvm.Cond.instanceMethod ({ cls := "NandHouse$Index", name := "stirAll", desc := "(LNandHouse$Knot;)V" } : Jvm.MethodName)) ∈ lw_all := lw_g (lw_at lw_m4 198 rfl) rfl
theorem q1049 : (Jvm.Cond.selects "NandHouse$Index" ({ cls := "NandHouse$Index", name := "stirAll", desc := "(LNandHouse$Knot;)V" } : Jvm.MethodName) ({ cls := "NandHouse$Index", name := "stirAll", desc := "(LNandHouse$Knot;)V" } : Jvm.MethodName)) ∈ lw_all := lw_g (lw_at lw_m4 199 rfl) rfl
theorem q1050 : (Jvm.Cond.code ({ cls := "NandHouse$Index", name := "stirAll", desc := "(LNandHouse$Knot;)V" } : Jvm.MethodName) prog_4_method_22_code (3 : Nat) (Option.none : Option Jvm.ClassFile.FieldType)) ∈ lw_all := lw_g (lw_at lw_m4 200 rfl) rfl
theorem q1051 : (Jvm.Cond.methodLink "NandHouse$Index" (180 : Nat) ({ cls := "NandHouse$Index", name := "stirAll", desc := "(LNandHouse$Knot;)V" } : Jvm.MethodName)) ∈ lw_all := lw_g (lw_at lw_m4 201 rfl) rfl
theorem q1066 : (Jvm.Cond.instanceMethod ({ cls := "NandHouse$Index", name := "next", desc := "()Z" } : Jvm.MethodName)) ∈ lw_all := lw_g (lw_at lw_m4 216 rfl) rfl
theorem q1067 : (Jvm.Cond.selects "NandHouse$Index" ({ cls := "NandHouse$Index", name := "next", desc := "()Z" } : Jvm.MethodName) ({ cls := "NandHouse$Index", name := "next", desc := "()Z" } : Jvm.MethodName)) ∈ lw_all := lw_g (lw_at lw_m4 217 rfl) rfl
theorem q1068 : (Jvm.Cond.code ({ cls := "NandHouse$Index", name := "next", desc := "()Z" } : Jvm.MethodName) prog_4_method_11_code (1 : Nat) (Option.some Jvm.ClassFile.FieldType.boolean)) ∈ lw_all := lw_g (lw_at lw_m4 218 rfl) rfl
theorem q1069 : (Jvm.Cond.constantLong "NandHouse$Index" (126 : Nat) (-1 : Int64)) ∈ lw_all := lw_g (lw_at lw_m4 219 rfl) rfl
theorem q1309 : (Jvm.Cond.instanceMethod ({ cls := "NandHouse$Index", name := "stir", desc := "(IJJII)V" } : Jvm.MethodName)) ∈ lw_all := lw_g (lw_at lw_m5 219 rfl) rfl
theorem q1310 : (Jvm.Cond.selects "NandHouse$Index" ({ cls := "NandHouse$Index", name := "stir", desc := "(IJJII)V" } : Jvm.MethodName) ({ cls := "NandHouse$Index", name := "stir", desc := "(IJJII)V" } : Jvm.MethodName)) ∈ lw_all := lw_g (lw_at lw_m5 220 rfl) rfl
theorem q1311 : (Jvm.Cond.code ({ cls := "NandHouse$Index", name := "stir", desc := "(IJJII)V" } : Jvm.MethodName) prog_4_method_20_code (10 : Nat) (Option.none : Option Jvm.ClassFile.FieldType)) ∈ lw_all := lw_g (lw_at lw_m5 221 rfl) rfl
theorem q1361 : (Jvm.Cond.instanceMethod ({ cls := "NandHouse$Index", name := "remove", desc := "(JJ)V" } : Jvm.MethodName)) ∈ lw_all := lw_g (lw_at lw_m6 31 rfl) rfl
theorem q1362 : (Jvm.Cond.selects "NandHouse$Index" ({ cls := "NandHouse$Index", name := "remove", desc := "(JJ)V" } : Jvm.MethodName) ({ cls := "NandHouse$Index", name := "remove", desc := "(JJ)V" } : Jvm.MethodName)) ∈ lw_all := lw_g (lw_at lw_m6 32 rfl) rfl
theorem q1363 : (Jvm.Cond.code ({ cls := "NandHouse$Index", name := "remove", desc := "(JJ)V" } : Jvm.MethodName) prog_4_method_17_code (6 : Nat) (Option.none : Option Jvm.ClassFile.FieldType)) ∈ lw_all := lw_g (lw_at lw_m6 33 rfl) rfl
theorem q1364 : (Jvm.Cond.methodLink "NandHouse$Index" (157 : Nat) ({ cls := "NandHouse$Index", name := "take", desc := "(LNandHouse$Knot;JJ)V" } : Jvm.MethodName)) ∈ lw_all := lw_g (lw_at lw_m6 34 rfl) rfl
theorem q1365 : (Jvm.Cond.privateMethod ({ cls := "NandHouse$Index", name := "take", desc := "(LNandHouse$Knot;JJ)V" } : Jvm.MethodName)) ∈ lw_tbl := lw_at lw_m6 35 rfl
theorem q1366 : (Jvm.Cond.instanceMethod ({ cls := "NandHouse$Index", name := "take", desc := "(LNandHouse$Knot;JJ)V" } : Jvm.MethodName)) ∈ lw_all := lw_g (lw_at lw_m6 36 rfl) rfl
theorem q1367 : (Jvm.Cond.code ({ cls := "NandHouse$Index", name := "take", desc := "(LNandHouse$Knot;JJ)V" } : Jvm.MethodName) prog_4_method_18_code (8 : Nat) (Option.none : Option Jvm.ClassFile.FieldType)) ∈ lw_all := lw_g (lw_at lw_m6 37 rfl) rfl
theorem q1368 : (Jvm.Cond.methodLink "NandHouse$Index" (163 : Nat) ({ cls := "NandHouse$Knot", name := "leave", desc := "(I)V" } : Jvm.MethodName)) ∈ lw_all := lw_g (lw_at lw_m6 38 rfl) rfl
theorem q1372 : (Jvm.Cond.methodLink "NandHouse$Index" (166 : Nat) ({ cls := "NandHouse$Index", name := "mend", desc := "(LNandHouse$Knot;I)V" } : Jvm.MethodName)) ∈ lw_all := lw_g (lw_at lw_m6 42 rfl) rfl
theorem q1373 : (Jvm.Cond.privateMethod ({ cls := "NandHouse$Index", name := "mend", desc := "(LNandHouse$Knot;I)V" } : Jvm.MethodName)) ∈ lw_tbl := lw_at lw_m6 43 rfl
theorem q1374 : (Jvm.Cond.instanceMethod ({ cls := "NandHouse$Index", name := "mend", desc := "(LNandHouse$Knot;I)V" } : Jvm.MethodName)) ∈ lw_all := lw_g (lw_at lw_m6 44 rfl) rfl
theorem q1375 : (Jvm.Cond.code ({ cls := "NandHouse$Index", name := "mend", desc := "(LNandHouse$Knot;I)V" } : Jvm.MethodName) prog_4_method_19_code (7 : Nat) (Option.none : Option Jvm.ClassFile.FieldType)) ∈ lw_all := lw_g (lw_at lw_m6 45 rfl) rfl
theorem q1376 : (Jvm.Cond.methodLink "NandHouse$Index" (160 : Nat) ({ cls := "NandHouse$Index", name := "give", desc := "(LNandHouse$Knot;)V" } : Jvm.MethodName)) ∈ lw_all := lw_g (lw_at lw_m6 46 rfl) rfl
theorem q1377 : (Jvm.Cond.privateMethod ({ cls := "NandHouse$Index", name := "give", desc := "(LNandHouse$Knot;)V" } : Jvm.MethodName)) ∈ lw_tbl := lw_at lw_m6 47 rfl
theorem q1378 : (Jvm.Cond.instanceMethod ({ cls := "NandHouse$Index", name := "give", desc := "(LNandHouse$Knot;)V" } : Jvm.MethodName)) ∈ lw_all := lw_g (lw_at lw_m6 48 rfl) rfl
theorem q1379 : (Jvm.Cond.code ({ cls := "NandHouse$Index", name := "give", desc := "(LNandHouse$Knot;)V" } : Jvm.MethodName) prog_4_method_6_code (3 : Nat) (Option.none : Option Jvm.ClassFile.FieldType)) ∈ lw_all := lw_g (lw_at lw_m6 49 rfl) rfl
theorem q1703 : (Jvm.Cond.instanceMethod ({ cls := "NandHouse$Index", name := "plant", desc := "(LNandHouse$Knot;)V" } : Jvm.MethodName)) ∈ lw_all := lw_g (lw_at lw_m7 133 rfl) rfl
theorem q1704 : (Jvm.Cond.selects "NandHouse$Index" ({ cls := "NandHouse$Index", name := "plant", desc := "(LNandHouse$Knot;)V" } : Jvm.MethodName) ({ cls := "NandHouse$Index", name := "plant", desc := "(LNandHouse$Knot;)V" } : Jvm.MethodName)) ∈ lw_all := lw_g (lw_at lw_m7 134 rfl) rfl
theorem q1705 : (Jvm.Cond.code ({ cls := "NandHouse$Index", name := "plant", desc := "(LNandHouse$Knot;)V" } : Jvm.MethodName) prog_4_method_3_code (2 : Nat) (Option.none : Option Jvm.ClassFile.FieldType)) ∈ lw_all := lw_g (lw_at lw_m7 135 rfl) rfl
theorem q1811 : (Jvm.Cond.instanceMethod ({ cls := "NandHouse$Index", name := "isSound", desc := "(LNandHouse$Knot;Z)Z" } : Jvm.MethodName)) ∈ lw_all := lw_g (lw_at lw_m8 1 rfl) rfl
theorem q1812 : (Jvm.Cond.selects "NandHouse$Index" ({ cls := "NandHouse$Index", name := "isSound", desc := "(LNandHouse$Knot;Z)Z" } : Jvm.MethodName) ({ cls := "NandHouse$Index", name := "isSound", desc := "(LNandHouse$Knot;Z)Z" } : Jvm.MethodName)) ∈ lw_all := lw_g (lw_at lw_m8 2 rfl) rfl
theorem q1813 : (Jvm.Cond.code ({ cls := "NandHouse$Index", name := "isSound", desc := "(LNandHouse$Knot;Z)Z" } : Jvm.MethodName) prog_4_method_24_code (6 : Nat) (Option.some Jvm.ClassFile.FieldType.boolean)) ∈ lw_all := lw_g (lw_at lw_m8 3 rfl) rfl
theorem q1814 : (Jvm.Cond.methodLink "NandHouse$Index" (187 : Nat) ({ cls := "NandHouse$Knot", name := "isBefore", desc := "(JJJJ)Z" } : Jvm.MethodName)) ∈ lw_all := lw_g (lw_at lw_m8 4 rfl) rfl
theorem q1815 : (Jvm.Cond.methodLink "NandHouse$Index" (191 : Nat) ({ cls := "NandHouse$Index", name := "isSound", desc := "(LNandHouse$Knot;Z)Z" } : Jvm.MethodName)) ∈ lw_all := lw_g (lw_at lw_m8 5 rfl) rfl
theorem in_X8 : ∀ w ∈ wsX80, w ∈ lw_all := lw_in wsX80 [470, 472, 474, 476, 478, 480, 482, 484, 486, 488, 490, 492, 494, 496] (by decide +kernel) (by decide +kernel)
