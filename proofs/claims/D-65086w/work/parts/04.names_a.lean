/-! NandHouseLaw -/
set_option maxRecDepth 100000
def RX0 : String := "NandHouseLaw"
abbrev cX0_cell : ByteArray := method_2_code
def yX0_cell : MethodName := ⟨RX0, "cell", "([II)I"⟩
def dkwX0_cell_0 : List UInt8 := [27, 42, 190, 162, 0, 9, 42, 27, 46, 167, 0, 4, 3, 172]
abbrev dktX0_cell_0 : List UInt8 := dkwX0_cell_0 ++ []
theorem dksX0_cell_0 : cX0_cell.data.toList.drop 0 = dktX0_cell_0 := by decide +kernel
theorem dX0_cell_0 : decode cX0_cell 0 = .ok (.iload_n 1, 1) := dk_27 (dk_at dksX0_cell_0 0 rfl rfl)
theorem dX0_cell_1 : decode cX0_cell 1 = .ok (.aload_n 0, 1) := dk_42 (dk_at dksX0_cell_0 1 rfl rfl)
theorem dX0_cell_2 : decode cX0_cell 2 = .ok (.arraylength, 1) := dk_190 (dk_at dksX0_cell_0 2 rfl rfl)
theorem dX0_cell_3 : decode cX0_cell 3 = .ok (.if_icmp .ge 9, 3) := dk_162 0 9 (dk_at dksX0_cell_0 3 rfl rfl)
theorem dX0_cell_6 : decode cX0_cell 6 = .ok (.aload_n 0, 1) := dk_42 (dk_at dksX0_cell_0 6 rfl rfl)
theorem dX0_cell_7 : decode cX0_cell 7 = .ok (.iload_n 1, 1) := dk_27 (dk_at dksX0_cell_0 7 rfl rfl)
theorem dX0_cell_8 : decode cX0_cell 8 = .ok (.iaload, 1) := dk_46 (dk_at dksX0_cell_0 8 rfl rfl)
theorem dX0_cell_9 : decode cX0_cell 9 = .ok (.goto 4, 3) := dk_167 0 4 (dk_at dksX0_cell_0 9 rfl rfl)
theorem dX0_cell_12 : decode cX0_cell 12 = .ok (.iconst 0, 1) := dk_3 (dk_at dksX0_cell_0 12 rfl rfl)
theorem dX0_cell_13 : decode cX0_cell 13 = .ok (.ireturn, 1) := dk_172 (dk_at dksX0_cell_0 13 rfl rfl)
theorem q130 : (Jvm.Cond.initialized "NandHouseLaw") ∈ lw_all := lw_g (lw_at lw_m1 0 rfl) rfl
theorem q151 : (Jvm.Cond.classLink "NandHouseLaw" (7 : Nat) "NandHouse") ∈ lw_all := lw_g (lw_at lw_m1 21 rfl) rfl
theorem q153 : (Jvm.Cond.methodLink "NandHouseLaw" (15 : Nat) ({ cls := "NandHouse", name := "<init>", desc := "(III)V" } : Jvm.MethodName)) ∈ lw_all := lw_g (lw_at lw_m1 23 rfl) rfl
theorem q1161 : (Jvm.Cond.methodLink "NandHouseLaw" (23 : Nat) ({ cls := "NandHouse", name := "create", desc := "(IJ)I" } : Jvm.MethodName)) ∈ lw_all := lw_g (lw_at lw_m5 71 rfl) rfl
theorem q1384 : (Jvm.Cond.methodLink "NandHouseLaw" (28 : Nat) ({ cls := "NandHouse", name := "mkdir", desc := "(IJ)I" } : Jvm.MethodName)) ∈ lw_all := lw_g (lw_at lw_m6 54 rfl) rfl
theorem q1388 : (Jvm.Cond.methodLink "NandHouseLaw" (32 : Nat) ({ cls := "NandHouse", name := "sign", desc := "(IJ)I" } : Jvm.MethodName)) ∈ lw_all := lw_g (lw_at lw_m6 58 rfl) rfl
theorem q1392 : (Jvm.Cond.methodLink "NandHouseLaw" (36 : Nat) ({ cls := "NandHouse", name := "link", desc := "(IIJ)I" } : Jvm.MethodName)) ∈ lw_all := lw_g (lw_at lw_m6 62 rfl) rfl
theorem q1396 : (Jvm.Cond.methodLink "NandHouseLaw" (41 : Nat) ({ cls := "NandHouse", name := "unlink", desc := "(IJ)I" } : Jvm.MethodName)) ∈ lw_all := lw_g (lw_at lw_m6 66 rfl) rfl
theorem q1420 : (Jvm.Cond.methodLink "NandHouseLaw" (45 : Nat) ({ cls := "NandHouse", name := "rmdir", desc := "(IJ)I" } : Jvm.MethodName)) ∈ lw_all := lw_g (lw_at lw_m6 90 rfl) rfl
theorem q1424 : (Jvm.Cond.methodLink "NandHouseLaw" (49 : Nat) ({ cls := "NandHouse", name := "rename", desc := "(IJIJ)I" } : Jvm.MethodName)) ∈ lw_all := lw_g (lw_at lw_m6 94 rfl) rfl
theorem q1432 : (Jvm.Cond.methodLink "NandHouseLaw" (54 : Nat) ({ cls := "NandHouse", name := "swap", desc := "(IJIJ)I" } : Jvm.MethodName)) ∈ lw_all := lw_g (lw_at lw_m6 102 rfl) rfl
theorem q1436 : (Jvm.Cond.methodLink "NandHouseLaw" (58 : Nat) ({ cls := "NandHouse", name := "look", desc := "(IJ)I" } : Jvm.MethodName)) ∈ lw_all := lw_g (lw_at lw_m6 106 rfl) rfl
theorem q1440 : (Jvm.Cond.methodLink "NandHouseLaw" (62 : Nat) ({ cls := "NandHouse", name := "list", desc := "(II)J" } : Jvm.MethodName)) ∈ lw_all := lw_g (lw_at lw_m6 110 rfl) rfl
theorem q1451 : (Jvm.Cond.methodLink "NandHouseLaw" (67 : Nat) ({ cls := "NandHouse", name := "after", desc := "(IJ)J" } : Jvm.MethodName)) ∈ lw_all := lw_g (lw_at lw_m6 121 rfl) rfl
theorem q1459 : (Jvm.Cond.methodLink "NandHouseLaw" (72 : Nat) ({ cls := "NandHouse", name := "feed", desc := "(JI)I" } : Jvm.MethodName)) ∈ lw_all := lw_g (lw_at lw_m6 129 rfl) rfl
theorem q1463 : (Jvm.Cond.methodLink "NandHouseLaw" (77 : Nat) ({ cls := "NandHouse", name := "walk", desc := "(IZ)I" } : Jvm.MethodName)) ∈ lw_all := lw_g (lw_at lw_m6 133 rfl) rfl
theorem q1484 : (Jvm.Cond.methodLink "NandHouseLaw" (82 : Nat) ({ cls := "NandHouse", name := "path", desc := "(I)I" } : Jvm.MethodName)) ∈ lw_all := lw_g (lw_at lw_m6 154 rfl) rfl
theorem q1488 : (Jvm.Cond.methodLink "NandHouseLaw" (87 : Nat) ({ cls := "NandHouse", name := "taped", desc := "(I)I" } : Jvm.MethodName)) ∈ lw_all := lw_g (lw_at lw_m6 158 rfl) rfl
theorem q1492 : (Jvm.Cond.methodLink "NandHouseLaw" (91 : Nat) ({ cls := "NandHouse", name := "text", desc := "(II)I" } : Jvm.MethodName)) ∈ lw_all := lw_g (lw_at lw_m6 162 rfl) rfl
theorem q1496 : (Jvm.Cond.methodLink "NandHouseLaw" (108 : Nat) ({ cls := "NandHouse", name := "set", desc := "(IJJ)I" } : Jvm.MethodName)) ∈ lw_all := lw_g (lw_at lw_m6 166 rfl) rfl
theorem q1508 : (Jvm.Cond.methodLink "NandHouseLaw" (113 : Nat) ({ cls := "NandHouse", name := "drop", desc := "(IJ)I" } : Jvm.MethodName)) ∈ lw_all := lw_g (lw_at lw_m6 178 rfl) rfl
theorem q1512 : (Jvm.Cond.methodLink "NandHouseLaw" (117 : Nat) ({ cls := "NandHouse", name := "attribute", desc := "(IJ)J" } : Jvm.MethodName)) ∈ lw_all := lw_g (lw_at lw_m6 182 rfl) rfl
theorem q1516 : (Jvm.Cond.methodLink "NandHouseLaw" (121 : Nat) ({ cls := "NandHouse", name := "attributes", desc := "(I)I" } : Jvm.MethodName)) ∈ lw_all := lw_g (lw_at lw_m6 186 rfl) rfl
theorem q1520 : (Jvm.Cond.methodLink "NandHouseLaw" (125 : Nat) ({ cls := "NandHouse", name := "key", desc := "(II)J" } : Jvm.MethodName)) ∈ lw_all := lw_g (lw_at lw_m6 190 rfl) rfl
theorem q1524 : (Jvm.Cond.methodLink "NandHouseLaw" (96 : Nat) ({ cls := "NandHouse", name := "kind", desc := "(I)I" } : Jvm.MethodName)) ∈ lw_all := lw_g (lw_at lw_m6 194 rfl) rfl
theorem q1528 : (Jvm.Cond.methodLink "NandHouseLaw" (100 : Nat) ({ cls := "NandHouse", name := "count", desc := "(I)I" } : Jvm.MethodName)) ∈ lw_all := lw_g (lw_at lw_m6 198 rfl) rfl
theorem q1532 : (Jvm.Cond.methodLink "NandHouseLaw" (104 : Nat) ({ cls := "NandHouse", name := "size", desc := "(I)I" } : Jvm.MethodName)) ∈ lw_all := lw_g (lw_at lw_m6 202 rfl) rfl
theorem q1536 : (Jvm.Cond.methodLink "NandHouseLaw" (129 : Nat) ({ cls := "NandHouse", name := "open", desc := "(I)I" } : Jvm.MethodName)) ∈ lw_all := lw_g (lw_at lw_m6 206 rfl) rfl
theorem q1540 : (Jvm.Cond.methodLink "NandHouseLaw" (133 : Nat) ({ cls := "NandHouse", name := "close", desc := "(I)I" } : Jvm.MethodName)) ∈ lw_all := lw_g (lw_at lw_m6 210 rfl) rfl
theorem q1548 : (Jvm.Cond.methodLink "NandHouseLaw" (137 : Nat) ({ cls := "NandHouse", name := "opened", desc := "(I)I" } : Jvm.MethodName)) ∈ lw_all := lw_g (lw_at lw_m6 218 rfl) rfl
theorem q1552 : (Jvm.Cond.methodLink "NandHouseLaw" (141 : Nat) ({ cls := "NandHouse", name := "write", desc := "(IIJI)I" } : Jvm.MethodName)) ∈ lw_all := lw_g (lw_at lw_m6 222 rfl) rfl
theorem q1567 : (Jvm.Cond.methodLink "NandHouseLaw" (146 : Nat) ({ cls := "NandHouse", name := "fill", desc := "(IIII)I" } : Jvm.MethodName)) ∈ lw_all := lw_g (lw_at lw_m6 237 rfl) rfl
theorem q1571 : (Jvm.Cond.methodLink "NandHouseLaw" (151 : Nat) ({ cls := "NandHouse", name := "copy", desc := "(IIIII)I" } : Jvm.MethodName)) ∈ lw_all := lw_g (lw_at lw_m7 1 rfl) rfl
theorem q1575 : (Jvm.Cond.methodLink "NandHouseLaw" (156 : Nat) ({ cls := "NandHouse", name := "resize", desc := "(II)I" } : Jvm.MethodName)) ∈ lw_all := lw_g (lw_at lw_m7 5 rfl) rfl
theorem q1579 : (Jvm.Cond.methodLink "NandHouseLaw" (160 : Nat) ({ cls := "NandHouse", name := "byteAt", desc := "(II)I" } : Jvm.MethodName)) ∈ lw_all := lw_g (lw_at lw_m7 9 rfl) rfl
theorem q1583 : (Jvm.Cond.methodLink "NandHouseLaw" (164 : Nat) ({ cls := "NandHouse", name := "word", desc := "(II)J" } : Jvm.MethodName)) ∈ lw_all := lw_g (lw_at lw_m7 13 rfl) rfl
theorem q1588 : (Jvm.Cond.methodLink "NandHouseLaw" (168 : Nat) ({ cls := "NandHouse", name := "sum", desc := "(I)J" } : Jvm.MethodName)) ∈ lw_all := lw_g (lw_at lw_m7 18 rfl) rfl
theorem q1592 : (Jvm.Cond.methodLink "NandHouseLaw" (173 : Nat) ({ cls := "NandHouse", name := "rawWrite", desc := "(II)I" } : Jvm.MethodName)) ∈ lw_all := lw_g (lw_at lw_m7 22 rfl) rfl
theorem q1612 : (Jvm.Cond.methodLink "NandHouseLaw" (177 : Nat) ({ cls := "NandHouse", name := "rawChange", desc := "(III)I" } : Jvm.MethodName)) ∈ lw_all := lw_g (lw_at lw_m7 42 rfl) rfl
theorem q1620 : (Jvm.Cond.methodLink "NandHouseLaw" (182 : Nat) ({ cls := "NandHouse", name := "rawByte", desc := "(II)I" } : Jvm.MethodName)) ∈ lw_all := lw_g (lw_at lw_m7 50 rfl) rfl
theorem q1625 : (Jvm.Cond.methodLink "NandHouseLaw" (186 : Nat) ({ cls := "NandHouse", name := "rawPages", desc := "(I)I" } : Jvm.MethodName)) ∈ lw_all := lw_g (lw_at lw_m7 55 rfl) rfl
theorem q1629 : (Jvm.Cond.methodLink "NandHouseLaw" (190 : Nat) ({ cls := "NandHouse", name := "sync", desc := "()I" } : Jvm.MethodName)) ∈ lw_all := lw_g (lw_at lw_m7 59 rfl) rfl
theorem q1634 : (Jvm.Cond.methodLink "NandHouseLaw" (195 : Nat) ({ cls := "NandHouse", name := "waiting", desc := "()I" } : Jvm.MethodName)) ∈ lw_all := lw_g (lw_at lw_m7 64 rfl) rfl
theorem q1638 : (Jvm.Cond.methodLink "NandHouseLaw" (199 : Nat) ({ cls := "NandHouse", name := "cut", desc := "()I" } : Jvm.MethodName)) ∈ lw_all := lw_g (lw_at lw_m7 68 rfl) rfl
theorem q1651 : (Jvm.Cond.methodLink "NandHouseLaw" (203 : Nat) ({ cls := "NandHouse", name := "on", desc := "()I" } : Jvm.MethodName)) ∈ lw_all := lw_g (lw_at lw_m7 81 rfl) rfl
theorem q1729 : (Jvm.Cond.methodLink "NandHouseLaw" (207 : Nat) ({ cls := "NandHouse", name := "work", desc := "()V" } : Jvm.MethodName)) ∈ lw_all := lw_g (lw_at lw_m7 159 rfl) rfl
theorem q1770 : (Jvm.Cond.methodLink "NandHouseLaw" (211 : Nat) ({ cls := "NandHouse", name := "fail", desc := "(I)Z" } : Jvm.MethodName)) ∈ lw_all := lw_g (lw_at lw_m7 200 rfl) rfl
theorem q1778 : (Jvm.Cond.methodLink "NandHouseLaw" (216 : Nat) ({ cls := "NandHouse", name := "flip", desc := "(I)Z" } : Jvm.MethodName)) ∈ lw_all := lw_g (lw_at lw_m7 208 rfl) rfl
theorem q1786 : (Jvm.Cond.methodLink "NandHouseLaw" (220 : Nat) ({ cls := "NandHouse", name := "told", desc := "(I)I" } : Jvm.MethodName)) ∈ lw_all := lw_g (lw_at lw_m7 216 rfl) rfl
theorem q1798 : (Jvm.Cond.methodLink "NandHouseLaw" (224 : Nat) ({ cls := "NandHouse", name := "sound", desc := "()Z" } : Jvm.MethodName)) ∈ lw_all := lw_g (lw_at lw_m7 228 rfl) rfl
theorem q1840 : (Jvm.Cond.methodLink "NandHouseLaw" (9 : Nat) ({ cls := "NandHouseLaw", name := "cell", desc := "([II)I" } : Jvm.MethodName)) ∈ lw_all := lw_g (lw_at lw_m8 30 rfl) rfl
theorem q1841 : (Jvm.Cond.static ({ cls := "NandHouseLaw", name := "cell", desc := "([II)I" } : Jvm.MethodName)) ∈ lw_all := lw_g (lw_at lw_m8 31 rfl) rfl
theorem q1842 : (Jvm.Cond.code ({ cls := "NandHouseLaw", name := "cell", desc := "([II)I" } : Jvm.MethodName) method_2_code (2 : Nat) (Option.some Jvm.ClassFile.FieldType.int)) ∈ lw_all := lw_g (lw_at lw_m8 32 rfl) rfl
theorem q1843 : (Jvm.Cond.classLink "NandHouseLaw" (18 : Nat) "NandHouseModel") ∈ lw_all := lw_g (lw_at lw_m8 33 rfl) rfl
theorem q1845 : (Jvm.Cond.methodLink "NandHouseLaw" (20 : Nat) ({ cls := "NandHouseModel", name := "<init>", desc := "(III)V" } : Jvm.MethodName)) ∈ lw_all := lw_g (lw_at lw_m8 35 rfl) rfl
theorem q2002 : (Jvm.Cond.methodLink "NandHouseLaw" (27 : Nat) ({ cls := "NandHouseModel", name := "create", desc := "(IJ)I" } : Jvm.MethodName)) ∈ lw_all := lw_g (lw_at lw_m8 192 rfl) rfl
theorem q2099 : (Jvm.Cond.methodLink "NandHouseLaw" (31 : Nat) ({ cls := "NandHouseModel", name := "mkdir", desc := "(IJ)I" } : Jvm.MethodName)) ∈ lw_all := lw_g (lw_at lw_m9 49 rfl) rfl
theorem q2103 : (Jvm.Cond.methodLink "NandHouseLaw" (35 : Nat) ({ cls := "NandHouseModel", name := "sign", desc := "(IJ)I" } : Jvm.MethodName)) ∈ lw_all := lw_g (lw_at lw_m9 53 rfl) rfl
theorem q2107 : (Jvm.Cond.methodLink "NandHouseLaw" (40 : Nat) ({ cls := "NandHouseModel", name := "link", desc := "(IIJ)I" } : Jvm.MethodName)) ∈ lw_all := lw_g (lw_at lw_m9 57 rfl) rfl
theorem q2115 : (Jvm.Cond.methodLink "NandHouseLaw" (44 : Nat) ({ cls := "NandHouseModel", name := "unlink", desc := "(IJ)I" } : Jvm.MethodName)) ∈ lw_all := lw_g (lw_at lw_m9 65 rfl) rfl
theorem q2123 : (Jvm.Cond.methodLink "NandHouseLaw" (48 : Nat) ({ cls := "NandHouseModel", name := "rmdir", desc := "(IJ)I" } : Jvm.MethodName)) ∈ lw_all := lw_g (lw_at lw_m9 73 rfl) rfl
theorem q2131 : (Jvm.Cond.methodLink "NandHouseLaw" (53 : Nat) ({ cls := "NandHouseModel", name := "rename", desc := "(IJIJ)I" } : Jvm.MethodName)) ∈ lw_all := lw_g (lw_at lw_m9 81 rfl) rfl
theorem q2139 : (Jvm.Cond.methodLink "NandHouseLaw" (57 : Nat) ({ cls := "NandHouseModel", name := "swap", desc := "(IJIJ)I" } : Jvm.MethodName)) ∈ lw_all := lw_g (lw_at lw_m9 89 rfl) rfl
theorem q2143 : (Jvm.Cond.methodLink "NandHouseLaw" (61 : Nat) ({ cls := "NandHouseModel", name := "look", desc := "(IJ)I" } : Jvm.MethodName)) ∈ lw_all := lw_g (lw_at lw_m9 93 rfl) rfl
theorem q2147 : (Jvm.Cond.methodLink "NandHouseLaw" (66 : Nat) ({ cls := "NandHouseModel", name := "list", desc := "(II)J" } : Jvm.MethodName)) ∈ lw_all := lw_g (lw_at lw_m9 97 rfl) rfl
theorem q2154 : (Jvm.Cond.methodLink "NandHouseLaw" (71 : Nat) ({ cls := "NandHouseModel", name := "after", desc := "(IJ)J" } : Jvm.MethodName)) ∈ lw_all := lw_g (lw_at lw_m9 104 rfl) rfl
theorem q2158 : (Jvm.Cond.methodLink "NandHouseLaw" (76 : Nat) ({ cls := "NandHouseModel", name := "feed", desc := "(JI)I" } : Jvm.MethodName)) ∈ lw_all := lw_g (lw_at lw_m9 108 rfl) rfl
theorem q2162 : (Jvm.Cond.methodLink "NandHouseLaw" (90 : Nat) ({ cls := "NandHouseModel", name := "taped", desc := "(I)I" } : Jvm.MethodName)) ∈ lw_all := lw_g (lw_at lw_m9 112 rfl) rfl
theorem q2166 : (Jvm.Cond.methodLink "NandHouseLaw" (81 : Nat) ({ cls := "NandHouseModel", name := "walk", desc := "(IZ)I" } : Jvm.MethodName)) ∈ lw_all := lw_g (lw_at lw_m9 116 rfl) rfl
theorem q2190 : (Jvm.Cond.methodLink "NandHouseLaw" (86 : Nat) ({ cls := "NandHouseModel", name := "path", desc := "(I)I" } : Jvm.MethodName)) ∈ lw_all := lw_g (lw_at lw_m9 140 rfl) rfl
theorem q2201 : (Jvm.Cond.methodLink "NandHouseLaw" (95 : Nat) ({ cls := "NandHouseModel", name := "text", desc := "(II)I" } : Jvm.MethodName)) ∈ lw_all := lw_g (lw_at lw_m9 151 rfl) rfl
theorem q2205 : (Jvm.Cond.methodLink "NandHouseLaw" (99 : Nat) ({ cls := "NandHouseModel", name := "kind", desc := "(I)I" } : Jvm.MethodName)) ∈ lw_all := lw_g (lw_at lw_m9 155 rfl) rfl
theorem q2209 : (Jvm.Cond.methodLink "NandHouseLaw" (103 : Nat) ({ cls := "NandHouseModel", name := "count", desc := "(I)I" } : Jvm.MethodName)) ∈ lw_all := lw_g (lw_at lw_m9 159 rfl) rfl
theorem q2213 : (Jvm.Cond.methodLink "NandHouseLaw" (107 : Nat) ({ cls := "NandHouseModel", name := "size", desc := "(I)I" } : Jvm.MethodName)) ∈ lw_all := lw_g (lw_at lw_m9 163 rfl) rfl
theorem q2217 : (Jvm.Cond.methodLink "NandHouseLaw" (112 : Nat) ({ cls := "NandHouseModel", name := "set", desc := "(IJJ)I" } : Jvm.MethodName)) ∈ lw_all := lw_g (lw_at lw_m9 167 rfl) rfl
theorem q2225 : (Jvm.Cond.methodLink "NandHouseLaw" (116 : Nat) ({ cls := "NandHouseModel", name := "drop", desc := "(IJ)I" } : Jvm.MethodName)) ∈ lw_all := lw_g (lw_at lw_m9 175 rfl) rfl
theorem q2229 : (Jvm.Cond.methodLink "NandHouseLaw" (120 : Nat) ({ cls := "NandHouseModel", name := "attribute", desc := "(IJ)J" } : Jvm.MethodName)) ∈ lw_all := lw_g (lw_at lw_m9 179 rfl) rfl
theorem q2233 : (Jvm.Cond.methodLink "NandHouseLaw" (124 : Nat) ({ cls := "NandHouseModel", name := "attributes", desc := "(I)I" } : Jvm.MethodName)) ∈ lw_all := lw_g (lw_at lw_m9 183 rfl) rfl
theorem q2237 : (Jvm.Cond.methodLink "NandHouseLaw" (128 : Nat) ({ cls := "NandHouseModel", name := "key", desc := "(II)J" } : Jvm.MethodName)) ∈ lw_all := lw_g (lw_at lw_m9 187 rfl) rfl
theorem q2241 : (Jvm.Cond.methodLink "NandHouseLaw" (132 : Nat) ({ cls := "NandHouseModel", name := "open", desc := "(I)I" } : Jvm.MethodName)) ∈ lw_all := lw_g (lw_at lw_m9 191 rfl) rfl
theorem q2245 : (Jvm.Cond.methodLink "NandHouseLaw" (136 : Nat) ({ cls := "NandHouseModel", name := "close", desc := "(I)I" } : Jvm.MethodName)) ∈ lw_all := lw_g (lw_at lw_m9 195 rfl) rfl
theorem q2253 : (Jvm.Cond.methodLink "NandHouseLaw" (140 : Nat) ({ cls := "NandHouseModel", name := "opened", desc := "(I)I" } : Jvm.MethodName)) ∈ lw_all := lw_g (lw_at lw_m9 203 rfl) rfl
theorem q2257 : (Jvm.Cond.methodLink "NandHouseLaw" (145 : Nat) ({ cls := "NandHouseModel", name := "write", desc := "(IIJI)I" } : Jvm.MethodName)) ∈ lw_all := lw_g (lw_at lw_m9 207 rfl) rfl
theorem q2270 : (Jvm.Cond.methodLink "NandHouseLaw" (150 : Nat) ({ cls := "NandHouseModel", name := "fill", desc := "(IIII)I" } : Jvm.MethodName)) ∈ lw_all := lw_g (lw_at lw_m9 220 rfl) rfl
theorem q2274 : (Jvm.Cond.methodLink "NandHouseLaw" (155 : Nat) ({ cls := "NandHouseModel", name := "copy", desc := "(IIIII)I" } : Jvm.MethodName)) ∈ lw_all := lw_g (lw_at lw_m9 224 rfl) rfl
theorem q2278 : (Jvm.Cond.methodLink "NandHouseLaw" (159 : Nat) ({ cls := "NandHouseModel", name := "resize", desc := "(II)I" } : Jvm.MethodName)) ∈ lw_all := lw_g (lw_at lw_m9 228 rfl) rfl
theorem q2282 : (Jvm.Cond.methodLink "NandHouseLaw" (163 : Nat) ({ cls := "NandHouseModel", name := "byteAt", desc := "(II)I" } : Jvm.MethodName)) ∈ lw_all := lw_g (lw_at lw_m9 232 rfl) rfl
theorem q2286 : (Jvm.Cond.methodLink "NandHouseLaw" (167 : Nat) ({ cls := "NandHouseModel", name := "word", desc := "(II)J" } : Jvm.MethodName)) ∈ lw_all := lw_g (lw_at lw_m9 236 rfl) rfl
theorem q2290 : (Jvm.Cond.methodLink "NandHouseLaw" (172 : Nat) ({ cls := "NandHouseModel", name := "sum", desc := "(I)J" } : Jvm.MethodName)) ∈ lw_all := lw_g (lw_at lw_m10 0 rfl) rfl
theorem q2295 : (Jvm.Cond.methodLink "NandHouseLaw" (176 : Nat) ({ cls := "NandHouseModel", name := "rawWrite", desc := "(II)I" } : Jvm.MethodName)) ∈ lw_all := lw_g (lw_at lw_m10 5 rfl) rfl
theorem q2307 : (Jvm.Cond.methodLink "NandHouseLaw" (181 : Nat) ({ cls := "NandHouseModel", name := "rawChange", desc := "(III)I" } : Jvm.MethodName)) ∈ lw_all := lw_g (lw_at lw_m10 17 rfl) rfl
theorem q2311 : (Jvm.Cond.methodLink "NandHouseLaw" (185 : Nat) ({ cls := "NandHouseModel", name := "rawByte", desc := "(II)I" } : Jvm.MethodName)) ∈ lw_all := lw_g (lw_at lw_m10 21 rfl) rfl
theorem q2315 : (Jvm.Cond.methodLink "NandHouseLaw" (189 : Nat) ({ cls := "NandHouseModel", name := "rawPages", desc := "(I)I" } : Jvm.MethodName)) ∈ lw_all := lw_g (lw_at lw_m10 25 rfl) rfl
theorem q2319 : (Jvm.Cond.methodLink "NandHouseLaw" (194 : Nat) ({ cls := "NandHouseModel", name := "sync", desc := "()I" } : Jvm.MethodName)) ∈ lw_all := lw_g (lw_at lw_m10 29 rfl) rfl
theorem q2323 : (Jvm.Cond.methodLink "NandHouseLaw" (198 : Nat) ({ cls := "NandHouseModel", name := "waiting", desc := "()I" } : Jvm.MethodName)) ∈ lw_all := lw_g (lw_at lw_m10 33 rfl) rfl
theorem q2327 : (Jvm.Cond.methodLink "NandHouseLaw" (202 : Nat) ({ cls := "NandHouseModel", name := "cut", desc := "()I" } : Jvm.MethodName)) ∈ lw_all := lw_g (lw_at lw_m10 37 rfl) rfl
theorem q2335 : (Jvm.Cond.methodLink "NandHouseLaw" (206 : Nat) ({ cls := "NandHouseModel", name := "on", desc := "()I" } : Jvm.MethodName)) ∈ lw_all := lw_g (lw_at lw_m10 45 rfl) rfl
theorem q2339 : (Jvm.Cond.methodLink "NandHouseLaw" (210 : Nat) ({ cls := "NandHouseModel", name := "work", desc := "()V" } : Jvm.MethodName)) ∈ lw_all := lw_g (lw_at lw_m10 49 rfl) rfl
theorem q2343 : (Jvm.Cond.methodLink "NandHouseLaw" (215 : Nat) ({ cls := "NandHouseModel", name := "fail", desc := "(I)Z" } : Jvm.MethodName)) ∈ lw_all := lw_g (lw_at lw_m10 53 rfl) rfl
theorem q2347 : (Jvm.Cond.methodLink "NandHouseLaw" (219 : Nat) ({ cls := "NandHouseModel", name := "flip", desc := "(I)Z" } : Jvm.MethodName)) ∈ lw_all := lw_g (lw_at lw_m10 57 rfl) rfl
theorem q2351 : (Jvm.Cond.methodLink "NandHouseLaw" (223 : Nat) ({ cls := "NandHouseModel", name := "told", desc := "(I)I" } : Jvm.MethodName)) ∈ lw_all := lw_g (lw_at lw_m10 61 rfl) rfl
theorem q2355 : (Jvm.Cond.methodLink "NandHouseLaw" (228 : Nat) ({ cls := "NandHouseModel", name := "sound", desc := "()Z" } : Jvm.MethodName)) ∈ lw_all := lw_g (lw_at lw_m10 65 rfl) rfl
theorem q2359 : (Jvm.Cond.constantLong "NandHouseLaw" (21 : Nat) (4294967295 : Int64)) ∈ lw_all := lw_g (lw_at lw_m10 69 rfl) rfl
/-! NandHouse$Flash -/
set_option maxRecDepth 100000
def RX4 : String := "NandHouse$Flash"
def TX4 : u_T := fun k => match k with
  | 0 => ("NandHouse$Flash", "blocks", "I", true)
  | 1 => ("NandHouse$Flash", "pages", "I", true)
  | 2 => ("NandHouse$Flash", "cells", "[B", true)
  | 3 => ("NandHouse$Flash", "guards", "[I", true)
  | 4 => ("NandHouse$Flash", "turned", "[Z", true)
  | 5 => ("NandHouse$Flash", "written", "[I", true)
  | 6 => ("NandHouse$Flash", "broken", "[Z", true)
  | 7 => ("NandHouse$Flash", "weak", "[Z", true)
  | _ => ("NandHouse$Flash", "failIn", "I", false)
def tyX4 : Nat → FieldType := fun k => match k with
  | 0 => .int
  | 1 => .int
  | 2 => .array .byte
  | 3 => .array .int
  | 4 => .array .boolean
  | 5 => .array .int
  | 6 => .array .boolean
  | 7 => .array .boolean
  | _ => .int
abbrev wsX40 : List Cond := u_ws RX4 TX4 9
theorem nmX4 : ∀ a, a < 9 → ∀ b, b < 9 → a ≠ b → (TX4 a).2.1 ≠ (TX4 b).2.1 := by decide +kernel
theorem tyX4_ok : ∀ k, k < 9 → parseFieldDescriptor (TX4 k).2.2.1 = some (tyX4 k) := by decide +kernel
abbrev cX4_init : ByteArray := prog_3_method_1_code
def yX4_init : MethodName := ⟨RX4, "<init>", "(II)V"⟩
def dkwX4_init_3 : List UInt8 := [42, 180, 0, 21, 2, 184, 0, 42, 177]
abbrev dktX4_init_3 : List UInt8 := dkwX4_init_3 ++ []
def dkwX4_init_2 : List UInt8 := [181, 0, 29, 42, 27, 188, 10, 181, 0, 33, 42, 27, 188, 4, 181, 0, 36, 42, 27, 188, 4, 181, 0, 39]
abbrev dktX4_init_2 : List UInt8 := dkwX4_init_2 ++ dktX4_init_3
def dkwX4_init_1 : List UInt8 := [17, 0, 128, 104, 188, 8, 181, 0, 21, 42, 27, 28, 104, 188, 10, 181, 0, 25, 42, 27, 28, 104, 188, 4]
abbrev dktX4_init_1 : List UInt8 := dkwX4_init_1 ++ dktX4_init_2
def dkwX4_init_0 : List UInt8 := [42, 183, 0, 3, 42, 2, 181, 0, 9, 42, 27, 181, 0, 15, 42, 28, 181, 0, 18, 42, 27, 28, 104]
abbrev dktX4_init_0 : List UInt8 := dkwX4_init_0 ++ dktX4_init_1
theorem dksX4_init_0 : cX4_init.data.toList.drop 0 = dktX4_init_0 := by decide +kernel
theorem dksX4_init_1 : cX4_init.data.toList.drop 23 = dktX4_init_1 := dk_seg dksX4_init_0 23 rfl rfl
theorem dksX4_init_2 : cX4_init.data.toList.drop 47 = dktX4_init_2 := dk_seg dksX4_init_1 24 rfl rfl
theorem dksX4_init_3 : cX4_init.data.toList.drop 71 = dktX4_init_3 := dk_seg dksX4_init_2 24 rfl rfl
theorem dX4_init_0 : decode cX4_init 0 = .ok (.aload_n 0, 1) := dk_42 (dk_at dksX4_init_0 0 rfl rfl)
theorem dX4_init_1 : decode cX4_init 1 = .ok (.invokespecial 3, 3) := dk_183 0 3 (dk_at dksX4_init_0 1 rfl rfl)
theorem dX4_init_4 : decode cX4_init 4 = .ok (.aload_n 0, 1) := dk_42 (dk_at dksX4_init_0 4 rfl rfl)
theorem dX4_init_5 : decode cX4_init 5 = .ok (.iconst (-1), 1) := dk_2 (dk_at dksX4_init_0 5 rfl rfl)
theorem dX4_init_6 : decode cX4_init 6 = .ok (.putfield 9, 3) := dk_181 0 9 (dk_at dksX4_init_0 6 rfl rfl)
theorem dX4_init_9 : decode cX4_init 9 = .ok (.aload_n 0, 1) := dk_42 (dk_at dksX4_init_0 9 rfl rfl)
theorem dX4_init_10 : decode cX4_init 10 = .ok (.iload_n 1, 1) := dk_27 (dk_at dksX4_init_0 10 rfl rfl)
theorem dX4_init_11 : decode cX4_init 11 = .ok (.putfield 15, 3) := dk_181 0 15 (dk_at dksX4_init_0 11 rfl rfl)
theorem dX4_init_14 : decode cX4_init 14 = .ok (.aload_n 0, 1) := dk_42 (dk_at dksX4_init_0 14 rfl rfl)
theorem dX4_init_15 : decode cX4_init 15 = .ok (.iload_n 2, 1) := dk_28 (dk_at dksX4_init_0 15 rfl rfl)
theorem dX4_init_16 : decode cX4_init 16 = .ok (.putfield 18, 3) := dk_181 0 18 (dk_at dksX4_init_0 16 rfl rfl)
theorem dX4_init_19 : decode cX4_init 19 = .ok (.aload_n 0, 1) := dk_42 (dk_at dksX4_init_0 19 rfl rfl)
theorem dX4_init_20 : decode cX4_init 20 = .ok (.iload_n 1, 1) := dk_27 (dk_at dksX4_init_0 20 rfl rfl)
theorem dX4_init_21 : decode cX4_init 21 = .ok (.iload_n 2, 1) := dk_28 (dk_at dksX4_init_0 21 rfl rfl)
theorem dX4_init_22 : decode cX4_init 22 = .ok (.imul, 1) := dk_104 (dk_at dksX4_init_0 22 rfl rfl)
theorem dX4_init_23 : decode cX4_init 23 = .ok (.sipush 128, 3) := dk_17 0 128 (dk_at dksX4_init_1 0 rfl rfl)
theorem dX4_init_26 : decode cX4_init 26 = .ok (.imul, 1) := dk_104 (dk_at dksX4_init_1 3 rfl rfl)
theorem dX4_init_27 : decode cX4_init 27 = .ok (.newarray .byte, 2) := dk_188_8 (dk_at dksX4_init_1 4 rfl rfl)
theorem dX4_init_29 : decode cX4_init 29 = .ok (.putfield 21, 3) := dk_181 0 21 (dk_at dksX4_init_1 6 rfl rfl)
theorem dX4_init_32 : decode cX4_init 32 = .ok (.aload_n 0, 1) := dk_42 (dk_at dksX4_init_1 9 rfl rfl)
theorem dX4_init_33 : decode cX4_init 33 = .ok (.iload_n 1, 1) := dk_27 (dk_at dksX4_init_1 10 rfl rfl)
theorem dX4_init_34 : decode cX4_init 34 = .ok (.iload_n 2, 1) := dk_28 (dk_at dksX4_init_1 11 rfl rfl)
theorem dX4_init_35 : decode cX4_init 35 = .ok (.imul, 1) := dk_104 (dk_at dksX4_init_1 12 rfl rfl)
theorem dX4_init_36 : decode cX4_init 36 = .ok (.newarray .int, 2) := dk_188_10 (dk_at dksX4_init_1 13 rfl rfl)
theorem dX4_init_38 : decode cX4_init 38 = .ok (.putfield 25, 3) := dk_181 0 25 (dk_at dksX4_init_1 15 rfl rfl)
theorem dX4_init_41 : decode cX4_init 41 = .ok (.aload_n 0, 1) := dk_42 (dk_at dksX4_init_1 18 rfl rfl)
theorem dX4_init_42 : decode cX4_init 42 = .ok (.iload_n 1, 1) := dk_27 (dk_at dksX4_init_1 19 rfl rfl)
theorem dX4_init_43 : decode cX4_init 43 = .ok (.iload_n 2, 1) := dk_28 (dk_at dksX4_init_1 20 rfl rfl)
theorem dX4_init_44 : decode cX4_init 44 = .ok (.imul, 1) := dk_104 (dk_at dksX4_init_1 21 rfl rfl)
theorem dX4_init_45 : decode cX4_init 45 = .ok (.newarray .boolean, 2) := dk_188_4 (dk_at dksX4_init_1 22 rfl rfl)
theorem dX4_init_47 : decode cX4_init 47 = .ok (.putfield 29, 3) := dk_181 0 29 (dk_at dksX4_init_2 0 rfl rfl)
theorem dX4_init_50 : decode cX4_init 50 = .ok (.aload_n 0, 1) := dk_42 (dk_at dksX4_init_2 3 rfl rfl)
theorem dX4_init_51 : decode cX4_init 51 = .ok (.iload_n 1, 1) := dk_27 (dk_at dksX4_init_2 4 rfl rfl)
theorem dX4_init_52 : decode cX4_init 52 = .ok (.newarray .int, 2) := dk_188_10 (dk_at dksX4_init_2 5 rfl rfl)
theorem dX4_init_54 : decode cX4_init 54 = .ok (.putfield 33, 3) := dk_181 0 33 (dk_at dksX4_init_2 7 rfl rfl)
theorem dX4_init_57 : decode cX4_init 57 = .ok (.aload_n 0, 1) := dk_42 (dk_at dksX4_init_2 10 rfl rfl)
theorem dX4_init_58 : decode cX4_init 58 = .ok (.iload_n 1, 1) := dk_27 (dk_at dksX4_init_2 11 rfl rfl)
theorem dX4_init_59 : decode cX4_init 59 = .ok (.newarray .boolean, 2) := dk_188_4 (dk_at dksX4_init_2 12 rfl rfl)
theorem dX4_init_61 : decode cX4_init 61 = .ok (.putfield 36, 3) := dk_181 0 36 (dk_at dksX4_init_2 14 rfl rfl)
theorem dX4_init_64 : decode cX4_init 64 = .ok (.aload_n 0, 1) := dk_42 (dk_at dksX4_init_2 17 rfl rfl)
theorem dX4_init_65 : decode cX4_init 65 = .ok (.iload_n 1, 1) := dk_27 (dk_at dksX4_init_2 18 rfl rfl)
theorem dX4_init_66 : decode cX4_init 66 = .ok (.newarray .boolean, 2) := dk_188_4 (dk_at dksX4_init_2 19 rfl rfl)
theorem dX4_init_68 : decode cX4_init 68 = .ok (.putfield 39, 3) := dk_181 0 39 (dk_at dksX4_init_2 21 rfl rfl)
theorem dX4_init_71 : decode cX4_init 71 = .ok (.aload_n 0, 1) := dk_42 (dk_at dksX4_init_3 0 rfl rfl)
theorem dX4_init_72 : decode cX4_init 72 = .ok (.getfield 21, 3) := dk_180 0 21 (dk_at dksX4_init_3 1 rfl rfl)
theorem dX4_init_75 : decode cX4_init 75 = .ok (.iconst (-1), 1) := dk_2 (dk_at dksX4_init_3 4 rfl rfl)
theorem dX4_init_76 : decode cX4_init 76 = .ok (.invokestatic 42, 3) := dk_184 0 42 (dk_at dksX4_init_3 5 rfl rfl)
theorem dX4_init_79 : decode cX4_init 79 = .ok (.return_, 1) := dk_177 (dk_at dksX4_init_3 8 rfl rfl)
abbrev cX4_erase : ByteArray := prog_3_method_10_code
def yX4_erase : MethodName := ⟨RX4, "erase", "(I)Z"⟩
def dkwX4_erase_3 : List UInt8 := [180, 0, 33, 27, 3, 79, 42, 180, 0, 39, 27, 3, 84, 4, 172]
abbrev dktX4_erase_3 : List UInt8 := dkwX4_erase_3 ++ []
def dkwX4_erase_2 : List UInt8 := [180, 0, 18, 96, 3, 184, 0, 65, 42, 180, 0, 29, 28, 28, 42, 180, 0, 18, 96, 3, 184, 0, 68, 42]
abbrev dktX4_erase_2 : List UInt8 := dkwX4_erase_2 ++ dktX4_erase_3
def dkwX4_erase_1 : List UInt8 := [104, 28, 42, 180, 0, 18, 96, 17, 0, 128, 104, 2, 184, 0, 62, 42, 180, 0, 25, 28, 28, 42]
abbrev dktX4_erase_1 : List UInt8 := dkwX4_erase_1 ++ dktX4_erase_2
def dkwX4_erase_0 : List UInt8 := [42, 182, 0, 48, 153, 0, 5, 3, 172, 27, 42, 180, 0, 18, 104, 61, 42, 180, 0, 21, 28, 17, 0, 128]
abbrev dktX4_erase_0 : List UInt8 := dkwX4_erase_0 ++ dktX4_erase_1
theorem dksX4_erase_0 : cX4_erase.data.toList.drop 0 = dktX4_erase_0 := by decide +kernel
theorem dksX4_erase_1 : cX4_erase.data.toList.drop 24 = dktX4_erase_1 := dk_seg dksX4_erase_0 24 rfl rfl
theorem dksX4_erase_2 : cX4_erase.data.toList.drop 46 = dktX4_erase_2 := dk_seg dksX4_erase_1 22 rfl rfl
theorem dksX4_erase_3 : cX4_erase.data.toList.drop 70 = dktX4_erase_3 := dk_seg dksX4_erase_2 24 rfl rfl
theorem dX4_erase_0 : decode cX4_erase 0 = .ok (.aload_n 0, 1) := dk_42 (dk_at dksX4_erase_0 0 rfl rfl)
theorem dX4_erase_1 : decode cX4_erase 1 = .ok (.invokevirtual 48, 3) := dk_182 0 48 (dk_at dksX4_erase_0 1 rfl rfl)
theorem dX4_erase_4 : decode cX4_erase 4 = .ok (.ifCond .eq 5, 3) := dk_153 0 5 (dk_at dksX4_erase_0 4 rfl rfl)
theorem dX4_erase_7 : decode cX4_erase 7 = .ok (.iconst 0, 1) := dk_3 (dk_at dksX4_erase_0 7 rfl rfl)
theorem dX4_erase_8 : decode cX4_erase 8 = .ok (.ireturn, 1) := dk_172 (dk_at dksX4_erase_0 8 rfl rfl)
theorem dX4_erase_9 : decode cX4_erase 9 = .ok (.iload_n 1, 1) := dk_27 (dk_at dksX4_erase_0 9 rfl rfl)
theorem dX4_erase_10 : decode cX4_erase 10 = .ok (.aload_n 0, 1) := dk_42 (dk_at dksX4_erase_0 10 rfl rfl)
theorem dX4_erase_11 : decode cX4_erase 11 = .ok (.getfield 18, 3) := dk_180 0 18 (dk_at dksX4_erase_0 11 rfl rfl)
theorem dX4_erase_14 : decode cX4_erase 14 = .ok (.imul, 1) := dk_104 (dk_at dksX4_erase_0 14 rfl rfl)
theorem dX4_erase_15 : decode cX4_erase 15 = .ok (.istore_n 2, 1) := dk_61 (dk_at dksX4_erase_0 15 rfl rfl)
theorem dX4_erase_16 : decode cX4_erase 16 = .ok (.aload_n 0, 1) := dk_42 (dk_at dksX4_erase_0 16 rfl rfl)
theorem dX4_erase_17 : decode cX4_erase 17 = .ok (.getfield 21, 3) := dk_180 0 21 (dk_at dksX4_erase_0 17 rfl rfl)
theorem dX4_erase_20 : decode cX4_erase 20 = .ok (.iload_n 2, 1) := dk_28 (dk_at dksX4_erase_0 20 rfl rfl)
theorem dX4_erase_21 : decode cX4_erase 21 = .ok (.sipush 128, 3) := dk_17 0 128 (dk_at dksX4_erase_0 21 rfl rfl)
theorem dX4_erase_24 : decode cX4_erase 24 = .ok (.imul, 1) := dk_104 (dk_at dksX4_erase_1 0 rfl rfl)
theorem dX4_erase_25 : decode cX4_erase 25 = .ok (.iload_n 2, 1) := dk_28 (dk_at dksX4_erase_1 1 rfl rfl)
theorem dX4_erase_26 : decode cX4_erase 26 = .ok (.aload_n 0, 1) := dk_42 (dk_at dksX4_erase_1 2 rfl rfl)
theorem dX4_erase_27 : decode cX4_erase 27 = .ok (.getfield 18, 3) := dk_180 0 18 (dk_at dksX4_erase_1 3 rfl rfl)
theorem dX4_erase_30 : decode cX4_erase 30 = .ok (.iadd, 1) := dk_96 (dk_at dksX4_erase_1 6 rfl rfl)
theorem dX4_erase_31 : decode cX4_erase 31 = .ok (.sipush 128, 3) := dk_17 0 128 (dk_at dksX4_erase_1 7 rfl rfl)
theorem dX4_erase_34 : decode cX4_erase 34 = .ok (.imul, 1) := dk_104 (dk_at dksX4_erase_1 10 rfl rfl)
theorem dX4_erase_35 : decode cX4_erase 35 = .ok (.iconst (-1), 1) := dk_2 (dk_at dksX4_erase_1 11 rfl rfl)
theorem dX4_erase_36 : decode cX4_erase 36 = .ok (.invokestatic 62, 3) := dk_184 0 62 (dk_at dksX4_erase_1 12 rfl rfl)
theorem dX4_erase_39 : decode cX4_erase 39 = .ok (.aload_n 0, 1) := dk_42 (dk_at dksX4_erase_1 15 rfl rfl)
theorem dX4_erase_40 : decode cX4_erase 40 = .ok (.getfield 25, 3) := dk_180 0 25 (dk_at dksX4_erase_1 16 rfl rfl)
theorem dX4_erase_43 : decode cX4_erase 43 = .ok (.iload_n 2, 1) := dk_28 (dk_at dksX4_erase_1 19 rfl rfl)
theorem dX4_erase_44 : decode cX4_erase 44 = .ok (.iload_n 2, 1) := dk_28 (dk_at dksX4_erase_1 20 rfl rfl)
theorem dX4_erase_45 : decode cX4_erase 45 = .ok (.aload_n 0, 1) := dk_42 (dk_at dksX4_erase_1 21 rfl rfl)
theorem dX4_erase_46 : decode cX4_erase 46 = .ok (.getfield 18, 3) := dk_180 0 18 (dk_at dksX4_erase_2 0 rfl rfl)
theorem dX4_erase_49 : decode cX4_erase 49 = .ok (.iadd, 1) := dk_96 (dk_at dksX4_erase_2 3 rfl rfl)
theorem dX4_erase_50 : decode cX4_erase 50 = .ok (.iconst 0, 1) := dk_3 (dk_at dksX4_erase_2 4 rfl rfl)
theorem dX4_erase_51 : decode cX4_erase 51 = .ok (.invokestatic 65, 3) := dk_184 0 65 (dk_at dksX4_erase_2 5 rfl rfl)
theorem dX4_erase_54 : decode cX4_erase 54 = .ok (.aload_n 0, 1) := dk_42 (dk_at dksX4_erase_2 8 rfl rfl)
theorem dX4_erase_55 : decode cX4_erase 55 = .ok (.getfield 29, 3) := dk_180 0 29 (dk_at dksX4_erase_2 9 rfl rfl)
theorem dX4_erase_58 : decode cX4_erase 58 = .ok (.iload_n 2, 1) := dk_28 (dk_at dksX4_erase_2 12 rfl rfl)
theorem dX4_erase_59 : decode cX4_erase 59 = .ok (.iload_n 2, 1) := dk_28 (dk_at dksX4_erase_2 13 rfl rfl)
theorem dX4_erase_60 : decode cX4_erase 60 = .ok (.aload_n 0, 1) := dk_42 (dk_at dksX4_erase_2 14 rfl rfl)
theorem dX4_erase_61 : decode cX4_erase 61 = .ok (.getfield 18, 3) := dk_180 0 18 (dk_at dksX4_erase_2 15 rfl rfl)
theorem dX4_erase_64 : decode cX4_erase 64 = .ok (.iadd, 1) := dk_96 (dk_at dksX4_erase_2 18 rfl rfl)
theorem dX4_erase_65 : decode cX4_erase 65 = .ok (.iconst 0, 1) := dk_3 (dk_at dksX4_erase_2 19 rfl rfl)
theorem dX4_erase_66 : decode cX4_erase 66 = .ok (.invokestatic 68, 3) := dk_184 0 68 (dk_at dksX4_erase_2 20 rfl rfl)
theorem dX4_erase_69 : decode cX4_erase 69 = .ok (.aload_n 0, 1) := dk_42 (dk_at dksX4_erase_2 23 rfl rfl)
theorem dX4_erase_70 : decode cX4_erase 70 = .ok (.getfield 33, 3) := dk_180 0 33 (dk_at dksX4_erase_3 0 rfl rfl)
theorem dX4_erase_73 : decode cX4_erase 73 = .ok (.iload_n 1, 1) := dk_27 (dk_at dksX4_erase_3 3 rfl rfl)
theorem dX4_erase_74 : decode cX4_erase 74 = .ok (.iconst 0, 1) := dk_3 (dk_at dksX4_erase_3 4 rfl rfl)
theorem dX4_erase_75 : decode cX4_erase 75 = .ok (.iastore, 1) := dk_79 (dk_at dksX4_erase_3 5 rfl rfl)
theorem dX4_erase_76 : decode cX4_erase 76 = .ok (.aload_n 0, 1) := dk_42 (dk_at dksX4_erase_3 6 rfl rfl)
theorem dX4_erase_77 : decode cX4_erase 77 = .ok (.getfield 39, 3) := dk_180 0 39 (dk_at dksX4_erase_3 7 rfl rfl)
theorem dX4_erase_80 : decode cX4_erase 80 = .ok (.iload_n 1, 1) := dk_27 (dk_at dksX4_erase_3 10 rfl rfl)
theorem dX4_erase_81 : decode cX4_erase 81 = .ok (.iconst 0, 1) := dk_3 (dk_at dksX4_erase_3 11 rfl rfl)
theorem dX4_erase_82 : decode cX4_erase 82 = .ok (.bastore, 1) := dk_84 (dk_at dksX4_erase_3 12 rfl rfl)
theorem dX4_erase_83 : decode cX4_erase 83 = .ok (.iconst 1, 1) := dk_4 (dk_at dksX4_erase_3 13 rfl rfl)
theorem dX4_erase_84 : decode cX4_erase 84 = .ok (.ireturn, 1) := dk_172 (dk_at dksX4_erase_3 14 rfl rfl)
abbrev cX4_fails : ByteArray := prog_3_method_2_code
def yX4_fails : MethodName := ⟨RX4, "fails", "()Z"⟩
def dkwX4_fails_1 : List UInt8 := [156, 0, 7, 4, 167, 0, 4, 3, 172]
abbrev dktX4_fails_1 : List UInt8 := dkwX4_fails_1 ++ []
def dkwX4_fails_0 : List UInt8 := [42, 180, 0, 9, 156, 0, 5, 3, 172, 42, 89, 180, 0, 9, 4, 100, 181, 0, 9, 42, 180, 0, 9]
abbrev dktX4_fails_0 : List UInt8 := dkwX4_fails_0 ++ dktX4_fails_1
theorem dksX4_fails_0 : cX4_fails.data.toList.drop 0 = dktX4_fails_0 := by decide +kernel
theorem dksX4_fails_1 : cX4_fails.data.toList.drop 23 = dktX4_fails_1 := dk_seg dksX4_fails_0 23 rfl rfl
theorem dX4_fails_0 : decode cX4_fails 0 = .ok (.aload_n 0, 1) := dk_42 (dk_at dksX4_fails_0 0 rfl rfl)
theorem dX4_fails_1 : decode cX4_fails 1 = .ok (.getfield 9, 3) := dk_180 0 9 (dk_at dksX4_fails_0 1 rfl rfl)
theorem dX4_fails_4 : decode cX4_fails 4 = .ok (.ifCond .ge 5, 3) := dk_156 0 5 (dk_at dksX4_fails_0 4 rfl rfl)
theorem dX4_fails_7 : decode cX4_fails 7 = .ok (.iconst 0, 1) := dk_3 (dk_at dksX4_fails_0 7 rfl rfl)
theorem dX4_fails_8 : decode cX4_fails 8 = .ok (.ireturn, 1) := dk_172 (dk_at dksX4_fails_0 8 rfl rfl)
theorem dX4_fails_9 : decode cX4_fails 9 = .ok (.aload_n 0, 1) := dk_42 (dk_at dksX4_fails_0 9 rfl rfl)
theorem dX4_fails_10 : decode cX4_fails 10 = .ok (.dup, 1) := dk_89 (dk_at dksX4_fails_0 10 rfl rfl)
theorem dX4_fails_11 : decode cX4_fails 11 = .ok (.getfield 9, 3) := dk_180 0 9 (dk_at dksX4_fails_0 11 rfl rfl)
theorem dX4_fails_14 : decode cX4_fails 14 = .ok (.iconst 1, 1) := dk_4 (dk_at dksX4_fails_0 14 rfl rfl)
theorem dX4_fails_15 : decode cX4_fails 15 = .ok (.isub, 1) := dk_100 (dk_at dksX4_fails_0 15 rfl rfl)
theorem dX4_fails_16 : decode cX4_fails 16 = .ok (.putfield 9, 3) := dk_181 0 9 (dk_at dksX4_fails_0 16 rfl rfl)
theorem dX4_fails_19 : decode cX4_fails 19 = .ok (.aload_n 0, 1) := dk_42 (dk_at dksX4_fails_0 19 rfl rfl)
theorem dX4_fails_20 : decode cX4_fails 20 = .ok (.getfield 9, 3) := dk_180 0 9 (dk_at dksX4_fails_0 20 rfl rfl)
theorem dX4_fails_23 : decode cX4_fails 23 = .ok (.ifCond .ge 7, 3) := dk_156 0 7 (dk_at dksX4_fails_1 0 rfl rfl)
theorem dX4_fails_26 : decode cX4_fails 26 = .ok (.iconst 1, 1) := dk_4 (dk_at dksX4_fails_1 3 rfl rfl)
theorem dX4_fails_27 : decode cX4_fails 27 = .ok (.goto 4, 3) := dk_167 0 4 (dk_at dksX4_fails_1 4 rfl rfl)
theorem dX4_fails_30 : decode cX4_fails 30 = .ok (.iconst 0, 1) := dk_3 (dk_at dksX4_fails_1 7 rfl rfl)
theorem dX4_fails_31 : decode cX4_fails 31 = .ok (.ireturn, 1) := dk_172 (dk_at dksX4_fails_1 8 rfl rfl)
abbrev cX4_write : ByteArray := prog_3_method_9_code
def yX4_write : MethodName := ⟨RX4, "write", "(II[BI)Z"⟩
def dkwX4_write_3 : List UInt8 := [21, 5, 3, 84, 42, 180, 0, 33, 27, 28, 4, 96, 79, 21, 6, 154, 0, 7, 4, 167, 0, 4, 3, 172]
abbrev dktX4_write_3 : List UInt8 := dkwX4_write_3 ++ []
def dkwX4_write_2 : List UInt8 := [180, 0, 25, 21, 5, 42, 42, 180, 0, 21, 21, 5, 17, 0, 128, 104, 182, 0, 58, 79, 42, 180, 0, 29]
abbrev dktX4_write_2 : List UInt8 := dkwX4_write_2 ++ dktX4_write_3
def dkwX4_write_1 : List UInt8 := [21, 5, 17, 0, 128, 104, 21, 6, 153, 0, 8, 16, 64, 167, 0, 6, 17, 0, 128, 184, 0, 52, 42]
abbrev dktX4_write_1 : List UInt8 := dkwX4_write_1 ++ dktX4_write_2
def dkwX4_write_0 : List UInt8 := [27, 42, 180, 0, 18, 104, 28, 96, 54, 5, 42, 182, 0, 48, 54, 6, 45, 21, 4, 42, 180, 0, 21]
abbrev dktX4_write_0 : List UInt8 := dkwX4_write_0 ++ dktX4_write_1
theorem dksX4_write_0 : cX4_write.data.toList.drop 0 = dktX4_write_0 := by decide +kernel
theorem dksX4_write_1 : cX4_write.data.toList.drop 23 = dktX4_write_1 := dk_seg dksX4_write_0 23 rfl rfl
theorem dksX4_write_2 : cX4_write.data.toList.drop 46 = dktX4_write_2 := dk_seg dksX4_write_1 23 rfl rfl
theorem dksX4_write_3 : cX4_write.data.toList.drop 70 = dktX4_write_3 := dk_seg dksX4_write_2 24 rfl rfl
theorem dX4_write_0 : decode cX4_write 0 = .ok (.iload_n 1, 1) := dk_27 (dk_at dksX4_write_0 0 rfl rfl)
theorem dX4_write_1 : decode cX4_write 1 = .ok (.aload_n 0, 1) := dk_42 (dk_at dksX4_write_0 1 rfl rfl)
theorem dX4_write_2 : decode cX4_write 2 = .ok (.getfield 18, 3) := dk_180 0 18 (dk_at dksX4_write_0 2 rfl rfl)
theorem dX4_write_5 : decode cX4_write 5 = .ok (.imul, 1) := dk_104 (dk_at dksX4_write_0 5 rfl rfl)
theorem dX4_write_6 : decode cX4_write 6 = .ok (.iload_n 2, 1) := dk_28 (dk_at dksX4_write_0 6 rfl rfl)
theorem dX4_write_7 : decode cX4_write 7 = .ok (.iadd, 1) := dk_96 (dk_at dksX4_write_0 7 rfl rfl)
theorem dX4_write_8 : decode cX4_write 8 = .ok (.istore 5, 2) := dk_54 5 (dk_at dksX4_write_0 8 rfl rfl)
theorem dX4_write_10 : decode cX4_write 10 = .ok (.aload_n 0, 1) := dk_42 (dk_at dksX4_write_0 10 rfl rfl)
theorem dX4_write_11 : decode cX4_write 11 = .ok (.invokevirtual 48, 3) := dk_182 0 48 (dk_at dksX4_write_0 11 rfl rfl)
theorem dX4_write_14 : decode cX4_write 14 = .ok (.istore 6, 2) := dk_54 6 (dk_at dksX4_write_0 14 rfl rfl)
theorem dX4_write_16 : decode cX4_write 16 = .ok (.aload_n 3, 1) := dk_45 (dk_at dksX4_write_0 16 rfl rfl)
theorem dX4_write_17 : decode cX4_write 17 = .ok (.iload 4, 2) := dk_21 4 (dk_at dksX4_write_0 17 rfl rfl)
theorem dX4_write_19 : decode cX4_write 19 = .ok (.aload_n 0, 1) := dk_42 (dk_at dksX4_write_0 19 rfl rfl)
theorem dX4_write_20 : decode cX4_write 20 = .ok (.getfield 21, 3) := dk_180 0 21 (dk_at dksX4_write_0 20 rfl rfl)
theorem dX4_write_23 : decode cX4_write 23 = .ok (.iload 5, 2) := dk_21 5 (dk_at dksX4_write_1 0 rfl rfl)
theorem dX4_write_25 : decode cX4_write 25 = .ok (.sipush 128, 3) := dk_17 0 128 (dk_at dksX4_write_1 2 rfl rfl)
theorem dX4_write_28 : decode cX4_write 28 = .ok (.imul, 1) := dk_104 (dk_at dksX4_write_1 5 rfl rfl)
theorem dX4_write_29 : decode cX4_write 29 = .ok (.iload 6, 2) := dk_21 6 (dk_at dksX4_write_1 6 rfl rfl)
theorem dX4_write_31 : decode cX4_write 31 = .ok (.ifCond .eq 8, 3) := dk_153 0 8 (dk_at dksX4_write_1 8 rfl rfl)
theorem dX4_write_34 : decode cX4_write 34 = .ok (.bipush 64, 2) := dk_16 64 (dk_at dksX4_write_1 11 rfl rfl)
theorem dX4_write_36 : decode cX4_write 36 = .ok (.goto 6, 3) := dk_167 0 6 (dk_at dksX4_write_1 13 rfl rfl)
theorem dX4_write_39 : decode cX4_write 39 = .ok (.sipush 128, 3) := dk_17 0 128 (dk_at dksX4_write_1 16 rfl rfl)
theorem dX4_write_42 : decode cX4_write 42 = .ok (.invokestatic 52, 3) := dk_184 0 52 (dk_at dksX4_write_1 19 rfl rfl)
theorem dX4_write_45 : decode cX4_write 45 = .ok (.aload_n 0, 1) := dk_42 (dk_at dksX4_write_1 22 rfl rfl)
theorem dX4_write_46 : decode cX4_write 46 = .ok (.getfield 25, 3) := dk_180 0 25 (dk_at dksX4_write_2 0 rfl rfl)
theorem dX4_write_49 : decode cX4_write 49 = .ok (.iload 5, 2) := dk_21 5 (dk_at dksX4_write_2 3 rfl rfl)
theorem dX4_write_51 : decode cX4_write 51 = .ok (.aload_n 0, 1) := dk_42 (dk_at dksX4_write_2 5 rfl rfl)
theorem dX4_write_52 : decode cX4_write 52 = .ok (.aload_n 0, 1) := dk_42 (dk_at dksX4_write_2 6 rfl rfl)
theorem dX4_write_53 : decode cX4_write 53 = .ok (.getfield 21, 3) := dk_180 0 21 (dk_at dksX4_write_2 7 rfl rfl)
theorem dX4_write_56 : decode cX4_write 56 = .ok (.iload 5, 2) := dk_21 5 (dk_at dksX4_write_2 10 rfl rfl)
theorem dX4_write_58 : decode cX4_write 58 = .ok (.sipush 128, 3) := dk_17 0 128 (dk_at dksX4_write_2 12 rfl rfl)
theorem dX4_write_61 : decode cX4_write 61 = .ok (.imul, 1) := dk_104 (dk_at dksX4_write_2 15 rfl rfl)
theorem dX4_write_62 : decode cX4_write 62 = .ok (.invokevirtual 58, 3) := dk_182 0 58 (dk_at dksX4_write_2 16 rfl rfl)
theorem dX4_write_65 : decode cX4_write 65 = .ok (.iastore, 1) := dk_79 (dk_at dksX4_write_2 19 rfl rfl)
theorem dX4_write_66 : decode cX4_write 66 = .ok (.aload_n 0, 1) := dk_42 (dk_at dksX4_write_2 20 rfl rfl)
theorem dX4_write_67 : decode cX4_write 67 = .ok (.getfield 29, 3) := dk_180 0 29 (dk_at dksX4_write_2 21 rfl rfl)
theorem dX4_write_70 : decode cX4_write 70 = .ok (.iload 5, 2) := dk_21 5 (dk_at dksX4_write_3 0 rfl rfl)
theorem dX4_write_72 : decode cX4_write 72 = .ok (.iconst 0, 1) := dk_3 (dk_at dksX4_write_3 2 rfl rfl)
theorem dX4_write_73 : decode cX4_write 73 = .ok (.bastore, 1) := dk_84 (dk_at dksX4_write_3 3 rfl rfl)
theorem dX4_write_74 : decode cX4_write 74 = .ok (.aload_n 0, 1) := dk_42 (dk_at dksX4_write_3 4 rfl rfl)
theorem dX4_write_75 : decode cX4_write 75 = .ok (.getfield 33, 3) := dk_180 0 33 (dk_at dksX4_write_3 5 rfl rfl)
theorem dX4_write_78 : decode cX4_write 78 = .ok (.iload_n 1, 1) := dk_27 (dk_at dksX4_write_3 8 rfl rfl)
theorem dX4_write_79 : decode cX4_write 79 = .ok (.iload_n 2, 1) := dk_28 (dk_at dksX4_write_3 9 rfl rfl)
theorem dX4_write_80 : decode cX4_write 80 = .ok (.iconst 1, 1) := dk_4 (dk_at dksX4_write_3 10 rfl rfl)
theorem dX4_write_81 : decode cX4_write 81 = .ok (.iadd, 1) := dk_96 (dk_at dksX4_write_3 11 rfl rfl)
theorem dX4_write_82 : decode cX4_write 82 = .ok (.iastore, 1) := dk_79 (dk_at dksX4_write_3 12 rfl rfl)
theorem dX4_write_83 : decode cX4_write 83 = .ok (.iload 6, 2) := dk_21 6 (dk_at dksX4_write_3 13 rfl rfl)
theorem dX4_write_85 : decode cX4_write 85 = .ok (.ifCond .ne 7, 3) := dk_154 0 7 (dk_at dksX4_write_3 15 rfl rfl)
theorem dX4_write_88 : decode cX4_write 88 = .ok (.iconst 1, 1) := dk_4 (dk_at dksX4_write_3 18 rfl rfl)
theorem dX4_write_89 : decode cX4_write 89 = .ok (.goto 4, 3) := dk_167 0 4 (dk_at dksX4_write_3 19 rfl rfl)
theorem dX4_write_92 : decode cX4_write 92 = .ok (.iconst 0, 1) := dk_3 (dk_at dksX4_write_3 22 rfl rfl)
theorem dX4_write_93 : decode cX4_write 93 = .ok (.ireturn, 1) := dk_172 (dk_at dksX4_write_3 23 rfl rfl)
abbrev cX4_guard : ByteArray := prog_3_method_3_code
def yX4_guard : MethodName := ⟨RX4, "guard", "([BI)I"⟩
def dkwX4_guard_3 : List UInt8 := [122, 54, 6, 167, 255, 215, 132, 5, 1, 167, 255, 186, 21, 4, 16, 11, 120, 29, 128, 172]
abbrev dktX4_guard_3 : List UInt8 := dkwX4_guard_3 ++ []
def dkwX4_guard_2 : List UInt8 := [16, 8, 21, 5, 104, 21, 7, 96, 4, 96, 130, 62, 21, 4, 4, 130, 54, 4, 132, 7, 1, 21, 6, 4]
abbrev dktX4_guard_2 : List UInt8 := dkwX4_guard_2 ++ dktX4_guard_3
def dkwX4_guard_1 : List UInt8 := [17, 0, 255, 126, 54, 6, 3, 54, 7, 21, 6, 153, 0, 42, 21, 6, 4, 126, 4, 160, 0, 22, 29]
abbrev dktX4_guard_1 : List UInt8 := dkwX4_guard_1 ++ dktX4_guard_2
def dkwX4_guard_0 : List UInt8 := [3, 62, 3, 54, 4, 3, 54, 5, 21, 5, 17, 0, 128, 162, 0, 68, 43, 28, 21, 5, 96, 51]
abbrev dktX4_guard_0 : List UInt8 := dkwX4_guard_0 ++ dktX4_guard_1
theorem dksX4_guard_0 : cX4_guard.data.toList.drop 0 = dktX4_guard_0 := by decide +kernel
theorem dksX4_guard_1 : cX4_guard.data.toList.drop 22 = dktX4_guard_1 := dk_seg dksX4_guard_0 22 rfl rfl
theorem dksX4_guard_2 : cX4_guard.data.toList.drop 45 = dktX4_guard_2 := dk_seg dksX4_guard_1 23 rfl rfl
theorem dksX4_guard_3 : cX4_guard.data.toList.drop 69 = dktX4_guard_3 := dk_seg dksX4_guard_2 24 rfl rfl
theorem dX4_guard_0 : decode cX4_guard 0 = .ok (.iconst 0, 1) := dk_3 (dk_at dksX4_guard_0 0 rfl rfl)
theorem dX4_guard_1 : decode cX4_guard 1 = .ok (.istore_n 3, 1) := dk_62 (dk_at dksX4_guard_0 1 rfl rfl)
theorem dX4_guard_2 : decode cX4_guard 2 = .ok (.iconst 0, 1) := dk_3 (dk_at dksX4_guard_0 2 rfl rfl)
theorem dX4_guard_3 : decode cX4_guard 3 = .ok (.istore 4, 2) := dk_54 4 (dk_at dksX4_guard_0 3 rfl rfl)
theorem dX4_guard_5 : decode cX4_guard 5 = .ok (.iconst 0, 1) := dk_3 (dk_at dksX4_guard_0 5 rfl rfl)
theorem dX4_guard_6 : decode cX4_guard 6 = .ok (.istore 5, 2) := dk_54 5 (dk_at dksX4_guard_0 6 rfl rfl)
theorem dX4_guard_8 : decode cX4_guard 8 = .ok (.iload 5, 2) := dk_21 5 (dk_at dksX4_guard_0 8 rfl rfl)
theorem dX4_guard_10 : decode cX4_guard 10 = .ok (.sipush 128, 3) := dk_17 0 128 (dk_at dksX4_guard_0 10 rfl rfl)
theorem dX4_guard_13 : decode cX4_guard 13 = .ok (.if_icmp .ge 68, 3) := dk_162 0 68 (dk_at dksX4_guard_0 13 rfl rfl)
theorem dX4_guard_16 : decode cX4_guard 16 = .ok (.aload_n 1, 1) := dk_43 (dk_at dksX4_guard_0 16 rfl rfl)
theorem dX4_guard_17 : decode cX4_guard 17 = .ok (.iload_n 2, 1) := dk_28 (dk_at dksX4_guard_0 17 rfl rfl)
theorem dX4_guard_18 : decode cX4_guard 18 = .ok (.iload 5, 2) := dk_21 5 (dk_at dksX4_guard_0 18 rfl rfl)
theorem dX4_guard_20 : decode cX4_guard 20 = .ok (.iadd, 1) := dk_96 (dk_at dksX4_guard_0 20 rfl rfl)
theorem dX4_guard_21 : decode cX4_guard 21 = .ok (.baload, 1) := dk_51 (dk_at dksX4_guard_0 21 rfl rfl)
theorem dX4_guard_22 : decode cX4_guard 22 = .ok (.sipush 255, 3) := dk_17 0 255 (dk_at dksX4_guard_1 0 rfl rfl)
theorem dX4_guard_25 : decode cX4_guard 25 = .ok (.iand, 1) := dk_126 (dk_at dksX4_guard_1 3 rfl rfl)
theorem dX4_guard_26 : decode cX4_guard 26 = .ok (.istore 6, 2) := dk_54 6 (dk_at dksX4_guard_1 4 rfl rfl)
theorem dX4_guard_28 : decode cX4_guard 28 = .ok (.iconst 0, 1) := dk_3 (dk_at dksX4_guard_1 6 rfl rfl)
theorem dX4_guard_29 : decode cX4_guard 29 = .ok (.istore 7, 2) := dk_54 7 (dk_at dksX4_guard_1 7 rfl rfl)
theorem dX4_guard_31 : decode cX4_guard 31 = .ok (.iload 6, 2) := dk_21 6 (dk_at dksX4_guard_1 9 rfl rfl)
theorem dX4_guard_33 : decode cX4_guard 33 = .ok (.ifCond .eq 42, 3) := dk_153 0 42 (dk_at dksX4_guard_1 11 rfl rfl)
theorem dX4_guard_36 : decode cX4_guard 36 = .ok (.iload 6, 2) := dk_21 6 (dk_at dksX4_guard_1 14 rfl rfl)
theorem dX4_guard_38 : decode cX4_guard 38 = .ok (.iconst 1, 1) := dk_4 (dk_at dksX4_guard_1 16 rfl rfl)
theorem dX4_guard_39 : decode cX4_guard 39 = .ok (.iand, 1) := dk_126 (dk_at dksX4_guard_1 17 rfl rfl)
theorem dX4_guard_40 : decode cX4_guard 40 = .ok (.iconst 1, 1) := dk_4 (dk_at dksX4_guard_1 18 rfl rfl)
theorem dX4_guard_41 : decode cX4_guard 41 = .ok (.if_icmp .ne 22, 3) := dk_160 0 22 (dk_at dksX4_guard_1 19 rfl rfl)
theorem dX4_guard_44 : decode cX4_guard 44 = .ok (.iload_n 3, 1) := dk_29 (dk_at dksX4_guard_1 22 rfl rfl)
theorem dX4_guard_45 : decode cX4_guard 45 = .ok (.bipush 8, 2) := dk_16 8 (dk_at dksX4_guard_2 0 rfl rfl)
theorem dX4_guard_47 : decode cX4_guard 47 = .ok (.iload 5, 2) := dk_21 5 (dk_at dksX4_guard_2 2 rfl rfl)
theorem dX4_guard_49 : decode cX4_guard 49 = .ok (.imul, 1) := dk_104 (dk_at dksX4_guard_2 4 rfl rfl)
theorem dX4_guard_50 : decode cX4_guard 50 = .ok (.iload 7, 2) := dk_21 7 (dk_at dksX4_guard_2 5 rfl rfl)
theorem dX4_guard_52 : decode cX4_guard 52 = .ok (.iadd, 1) := dk_96 (dk_at dksX4_guard_2 7 rfl rfl)
theorem dX4_guard_53 : decode cX4_guard 53 = .ok (.iconst 1, 1) := dk_4 (dk_at dksX4_guard_2 8 rfl rfl)
theorem dX4_guard_54 : decode cX4_guard 54 = .ok (.iadd, 1) := dk_96 (dk_at dksX4_guard_2 9 rfl rfl)
theorem dX4_guard_55 : decode cX4_guard 55 = .ok (.ixor, 1) := dk_130 (dk_at dksX4_guard_2 10 rfl rfl)
theorem dX4_guard_56 : decode cX4_guard 56 = .ok (.istore_n 3, 1) := dk_62 (dk_at dksX4_guard_2 11 rfl rfl)
theorem dX4_guard_57 : decode cX4_guard 57 = .ok (.iload 4, 2) := dk_21 4 (dk_at dksX4_guard_2 12 rfl rfl)
theorem dX4_guard_59 : decode cX4_guard 59 = .ok (.iconst 1, 1) := dk_4 (dk_at dksX4_guard_2 14 rfl rfl)
theorem dX4_guard_60 : decode cX4_guard 60 = .ok (.ixor, 1) := dk_130 (dk_at dksX4_guard_2 15 rfl rfl)
theorem dX4_guard_61 : decode cX4_guard 61 = .ok (.istore 4, 2) := dk_54 4 (dk_at dksX4_guard_2 16 rfl rfl)
theorem dX4_guard_63 : decode cX4_guard 63 = .ok (.iinc 7 1, 3) := dk_132 7 1 (dk_at dksX4_guard_2 18 rfl rfl)
theorem dX4_guard_66 : decode cX4_guard 66 = .ok (.iload 6, 2) := dk_21 6 (dk_at dksX4_guard_2 21 rfl rfl)
theorem dX4_guard_68 : decode cX4_guard 68 = .ok (.iconst 1, 1) := dk_4 (dk_at dksX4_guard_2 23 rfl rfl)
theorem dX4_guard_69 : decode cX4_guard 69 = .ok (.ishr, 1) := dk_122 (dk_at dksX4_guard_3 0 rfl rfl)
theorem dX4_guard_70 : decode cX4_guard 70 = .ok (.istore 6, 2) := dk_54 6 (dk_at dksX4_guard_3 1 rfl rfl)
theorem dX4_guard_72 : decode cX4_guard 72 = .ok (.goto (-41), 3) := dk_167 255 215 (dk_at dksX4_guard_3 3 rfl rfl)
theorem dX4_guard_75 : decode cX4_guard 75 = .ok (.iinc 5 1, 3) := dk_132 5 1 (dk_at dksX4_guard_3 6 rfl rfl)
theorem dX4_guard_78 : decode cX4_guard 78 = .ok (.goto (-70), 3) := dk_167 255 186 (dk_at dksX4_guard_3 9 rfl rfl)
theorem dX4_guard_81 : decode cX4_guard 81 = .ok (.iload 4, 2) := dk_21 4 (dk_at dksX4_guard_3 12 rfl rfl)
theorem dX4_guard_83 : decode cX4_guard 83 = .ok (.bipush 11, 2) := dk_16 11 (dk_at dksX4_guard_3 14 rfl rfl)
theorem dX4_guard_85 : decode cX4_guard 85 = .ok (.ishl, 1) := dk_120 (dk_at dksX4_guard_3 16 rfl rfl)
theorem dX4_guard_86 : decode cX4_guard 86 = .ok (.iload_n 3, 1) := dk_29 (dk_at dksX4_guard_3 17 rfl rfl)
theorem dX4_guard_87 : decode cX4_guard 87 = .ok (.ior, 1) := dk_128 (dk_at dksX4_guard_3 18 rfl rfl)
theorem dX4_guard_88 : decode cX4_guard 88 = .ok (.ireturn, 1) := dk_172 (dk_at dksX4_guard_3 19 rfl rfl)
abbrev cX4_giveUp : ByteArray := prog_3_method_7_code
def yX4_giveUp : MethodName := ⟨RX4, "giveUp", "(I)V"⟩
def dkwX4_giveUp_0 : List UInt8 := [42, 180, 0, 36, 27, 4, 84, 177]
abbrev dktX4_giveUp_0 : List UInt8 := dkwX4_giveUp_0 ++ []
theorem dksX4_giveUp_0 : cX4_giveUp.data.toList.drop 0 = dktX4_giveUp_0 := by decide +kernel
theorem dX4_giveUp_0 : decode cX4_giveUp 0 = .ok (.aload_n 0, 1) := dk_42 (dk_at dksX4_giveUp_0 0 rfl rfl)
theorem dX4_giveUp_1 : decode cX4_giveUp 1 = .ok (.getfield 36, 3) := dk_180 0 36 (dk_at dksX4_giveUp_0 1 rfl rfl)
theorem dX4_giveUp_4 : decode cX4_giveUp 4 = .ok (.iload_n 1, 1) := dk_27 (dk_at dksX4_giveUp_0 4 rfl rfl)
theorem dX4_giveUp_5 : decode cX4_giveUp 5 = .ok (.iconst 1, 1) := dk_4 (dk_at dksX4_giveUp_0 5 rfl rfl)
theorem dX4_giveUp_6 : decode cX4_giveUp 6 = .ok (.bastore, 1) := dk_84 (dk_at dksX4_giveUp_0 6 rfl rfl)
theorem dX4_giveUp_7 : decode cX4_giveUp 7 = .ok (.return_, 1) := dk_177 (dk_at dksX4_giveUp_0 7 rfl rfl)
abbrev cX4_read : ByteArray := prog_3_method_11_code
def yX4_read : MethodName := ⟨RX4, "read", "(II[BI)V"⟩
def dkwX4_read_4 : List UInt8 := [16, 8, 112, 120, 145, 130, 145, 84, 177]
abbrev dktX4_read_4 : List UInt8 := dkwX4_read_4 ++ []
def dkwX4_read_3 : List UInt8 := [21, 6, 17, 7, 255, 126, 4, 100, 54, 7, 45, 21, 4, 21, 7, 16, 8, 108, 96, 92, 51, 4, 21, 7]
abbrev dktX4_read_3 : List UInt8 := dkwX4_read_3 ++ dktX4_read_4
def dkwX4_read_2 : List UInt8 := [42, 45, 21, 4, 182, 0, 58, 130, 54, 6, 21, 6, 154, 0, 4, 177, 42, 180, 0, 39, 27, 4, 84]
abbrev dktX4_read_2 : List UInt8 := dkwX4_read_2 ++ dktX4_read_3
def dkwX4_read_1 : List UInt8 := [17, 0, 128, 184, 0, 52, 28, 42, 180, 0, 33, 27, 46, 161, 0, 4, 177, 42, 180, 0, 25, 21, 5, 46]
abbrev dktX4_read_1 : List UInt8 := dkwX4_read_1 ++ dktX4_read_2
def dkwX4_read_0 : List UInt8 := [27, 42, 180, 0, 18, 104, 28, 96, 54, 5, 42, 180, 0, 21, 21, 5, 17, 0, 128, 104, 45, 21, 4]
abbrev dktX4_read_0 : List UInt8 := dkwX4_read_0 ++ dktX4_read_1
theorem dksX4_read_0 : cX4_read.data.toList.drop 0 = dktX4_read_0 := by decide +kernel
theorem dksX4_read_1 : cX4_read.data.toList.drop 23 = dktX4_read_1 := dk_seg dksX4_read_0 23 rfl rfl
theorem dksX4_read_2 : cX4_read.data.toList.drop 47 = dktX4_read_2 := dk_seg dksX4_read_1 24 rfl rfl
theorem dksX4_read_3 : cX4_read.data.toList.drop 70 = dktX4_read_3 := dk_seg dksX4_read_2 23 rfl rfl
theorem dksX4_read_4 : cX4_read.data.toList.drop 94 = dktX4_read_4 := dk_seg dksX4_read_3 24 rfl rfl
theorem dX4_read_0 : decode cX4_read 0 = .ok (.iload_n 1, 1) := dk_27 (dk_at dksX4_read_0 0 rfl rfl)
theorem dX4_read_1 : decode cX4_read 1 = .ok (.aload_n 0, 1) := dk_42 (dk_at dksX4_read_0 1 rfl rfl)
theorem dX4_read_2 : decode cX4_read 2 = .ok (.getfield 18, 3) := dk_180 0 18 (dk_at dksX4_read_0 2 rfl rfl)
theorem dX4_read_5 : decode cX4_read 5 = .ok (.imul, 1) := dk_104 (dk_at dksX4_read_0 5 rfl rfl)
theorem dX4_read_6 : decode cX4_read 6 = .ok (.iload_n 2, 1) := dk_28 (dk_at dksX4_read_0 6 rfl rfl)
theorem dX4_read_7 : decode cX4_read 7 = .ok (.iadd, 1) := dk_96 (dk_at dksX4_read_0 7 rfl rfl)
theorem dX4_read_8 : decode cX4_read 8 = .ok (.istore 5, 2) := dk_54 5 (dk_at dksX4_read_0 8 rfl rfl)
theorem dX4_read_10 : decode cX4_read 10 = .ok (.aload_n 0, 1) := dk_42 (dk_at dksX4_read_0 10 rfl rfl)
theorem dX4_read_11 : decode cX4_read 11 = .ok (.getfield 21, 3) := dk_180 0 21 (dk_at dksX4_read_0 11 rfl rfl)
theorem dX4_read_14 : decode cX4_read 14 = .ok (.iload 5, 2) := dk_21 5 (dk_at dksX4_read_0 14 rfl rfl)
theorem dX4_read_16 : decode cX4_read 16 = .ok (.sipush 128, 3) := dk_17 0 128 (dk_at dksX4_read_0 16 rfl rfl)
theorem dX4_read_19 : decode cX4_read 19 = .ok (.imul, 1) := dk_104 (dk_at dksX4_read_0 19 rfl rfl)
theorem dX4_read_20 : decode cX4_read 20 = .ok (.aload_n 3, 1) := dk_45 (dk_at dksX4_read_0 20 rfl rfl)
theorem dX4_read_21 : decode cX4_read 21 = .ok (.iload 4, 2) := dk_21 4 (dk_at dksX4_read_0 21 rfl rfl)
theorem dX4_read_23 : decode cX4_read 23 = .ok (.sipush 128, 3) := dk_17 0 128 (dk_at dksX4_read_1 0 rfl rfl)
theorem dX4_read_26 : decode cX4_read 26 = .ok (.invokestatic 52, 3) := dk_184 0 52 (dk_at dksX4_read_1 3 rfl rfl)
theorem dX4_read_29 : decode cX4_read 29 = .ok (.iload_n 2, 1) := dk_28 (dk_at dksX4_read_1 6 rfl rfl)
theorem dX4_read_30 : decode cX4_read 30 = .ok (.aload_n 0, 1) := dk_42 (dk_at dksX4_read_1 7 rfl rfl)
theorem dX4_read_31 : decode cX4_read 31 = .ok (.getfield 33, 3) := dk_180 0 33 (dk_at dksX4_read_1 8 rfl rfl)
theorem dX4_read_34 : decode cX4_read 34 = .ok (.iload_n 1, 1) := dk_27 (dk_at dksX4_read_1 11 rfl rfl)
theorem dX4_read_35 : decode cX4_read 35 = .ok (.iaload, 1) := dk_46 (dk_at dksX4_read_1 12 rfl rfl)
theorem dX4_read_36 : decode cX4_read 36 = .ok (.if_icmp .lt 4, 3) := dk_161 0 4 (dk_at dksX4_read_1 13 rfl rfl)
theorem dX4_read_39 : decode cX4_read 39 = .ok (.return_, 1) := dk_177 (dk_at dksX4_read_1 16 rfl rfl)
theorem dX4_read_40 : decode cX4_read 40 = .ok (.aload_n 0, 1) := dk_42 (dk_at dksX4_read_1 17 rfl rfl)
theorem dX4_read_41 : decode cX4_read 41 = .ok (.getfield 25, 3) := dk_180 0 25 (dk_at dksX4_read_1 18 rfl rfl)
theorem dX4_read_44 : decode cX4_read 44 = .ok (.iload 5, 2) := dk_21 5 (dk_at dksX4_read_1 21 rfl rfl)
theorem dX4_read_46 : decode cX4_read 46 = .ok (.iaload, 1) := dk_46 (dk_at dksX4_read_1 23 rfl rfl)
theorem dX4_read_47 : decode cX4_read 47 = .ok (.aload_n 0, 1) := dk_42 (dk_at dksX4_read_2 0 rfl rfl)
theorem dX4_read_48 : decode cX4_read 48 = .ok (.aload_n 3, 1) := dk_45 (dk_at dksX4_read_2 1 rfl rfl)
theorem dX4_read_49 : decode cX4_read 49 = .ok (.iload 4, 2) := dk_21 4 (dk_at dksX4_read_2 2 rfl rfl)
theorem dX4_read_51 : decode cX4_read 51 = .ok (.invokevirtual 58, 3) := dk_182 0 58 (dk_at dksX4_read_2 4 rfl rfl)
theorem dX4_read_54 : decode cX4_read 54 = .ok (.ixor, 1) := dk_130 (dk_at dksX4_read_2 7 rfl rfl)
theorem dX4_read_55 : decode cX4_read 55 = .ok (.istore 6, 2) := dk_54 6 (dk_at dksX4_read_2 8 rfl rfl)
theorem dX4_read_57 : decode cX4_read 57 = .ok (.iload 6, 2) := dk_21 6 (dk_at dksX4_read_2 10 rfl rfl)
theorem dX4_read_59 : decode cX4_read 59 = .ok (.ifCond .ne 4, 3) := dk_154 0 4 (dk_at dksX4_read_2 12 rfl rfl)
theorem dX4_read_62 : decode cX4_read 62 = .ok (.return_, 1) := dk_177 (dk_at dksX4_read_2 15 rfl rfl)
theorem dX4_read_63 : decode cX4_read 63 = .ok (.aload_n 0, 1) := dk_42 (dk_at dksX4_read_2 16 rfl rfl)
theorem dX4_read_64 : decode cX4_read 64 = .ok (.getfield 39, 3) := dk_180 0 39 (dk_at dksX4_read_2 17 rfl rfl)
theorem dX4_read_67 : decode cX4_read 67 = .ok (.iload_n 1, 1) := dk_27 (dk_at dksX4_read_2 20 rfl rfl)
theorem dX4_read_68 : decode cX4_read 68 = .ok (.iconst 1, 1) := dk_4 (dk_at dksX4_read_2 21 rfl rfl)
theorem dX4_read_69 : decode cX4_read 69 = .ok (.bastore, 1) := dk_84 (dk_at dksX4_read_2 22 rfl rfl)
theorem dX4_read_70 : decode cX4_read 70 = .ok (.iload 6, 2) := dk_21 6 (dk_at dksX4_read_3 0 rfl rfl)
theorem dX4_read_72 : decode cX4_read 72 = .ok (.sipush 2047, 3) := dk_17 7 255 (dk_at dksX4_read_3 2 rfl rfl)
theorem dX4_read_75 : decode cX4_read 75 = .ok (.iand, 1) := dk_126 (dk_at dksX4_read_3 5 rfl rfl)
theorem dX4_read_76 : decode cX4_read 76 = .ok (.iconst 1, 1) := dk_4 (dk_at dksX4_read_3 6 rfl rfl)
theorem dX4_read_77 : decode cX4_read 77 = .ok (.isub, 1) := dk_100 (dk_at dksX4_read_3 7 rfl rfl)
theorem dX4_read_78 : decode cX4_read 78 = .ok (.istore 7, 2) := dk_54 7 (dk_at dksX4_read_3 8 rfl rfl)
theorem dX4_read_80 : decode cX4_read 80 = .ok (.aload_n 3, 1) := dk_45 (dk_at dksX4_read_3 10 rfl rfl)
theorem dX4_read_81 : decode cX4_read 81 = .ok (.iload 4, 2) := dk_21 4 (dk_at dksX4_read_3 11 rfl rfl)
theorem dX4_read_83 : decode cX4_read 83 = .ok (.iload 7, 2) := dk_21 7 (dk_at dksX4_read_3 13 rfl rfl)
theorem dX4_read_85 : decode cX4_read 85 = .ok (.bipush 8, 2) := dk_16 8 (dk_at dksX4_read_3 15 rfl rfl)
theorem dX4_read_87 : decode cX4_read 87 = .ok (.idiv, 1) := dk_108 (dk_at dksX4_read_3 17 rfl rfl)
theorem dX4_read_88 : decode cX4_read 88 = .ok (.iadd, 1) := dk_96 (dk_at dksX4_read_3 18 rfl rfl)
theorem dX4_read_89 : decode cX4_read 89 = .ok (.dup2, 1) := dk_92 (dk_at dksX4_read_3 19 rfl rfl)
theorem dX4_read_90 : decode cX4_read 90 = .ok (.baload, 1) := dk_51 (dk_at dksX4_read_3 20 rfl rfl)
theorem dX4_read_91 : decode cX4_read 91 = .ok (.iconst 1, 1) := dk_4 (dk_at dksX4_read_3 21 rfl rfl)
theorem dX4_read_92 : decode cX4_read 92 = .ok (.iload 7, 2) := dk_21 7 (dk_at dksX4_read_3 22 rfl rfl)
theorem dX4_read_94 : decode cX4_read 94 = .ok (.bipush 8, 2) := dk_16 8 (dk_at dksX4_read_4 0 rfl rfl)
theorem dX4_read_96 : decode cX4_read 96 = .ok (.irem, 1) := dk_112 (dk_at dksX4_read_4 2 rfl rfl)
theorem dX4_read_97 : decode cX4_read 97 = .ok (.ishl, 1) := dk_120 (dk_at dksX4_read_4 3 rfl rfl)
theorem dX4_read_98 : decode cX4_read 98 = .ok (.i2b, 1) := dk_145 (dk_at dksX4_read_4 4 rfl rfl)
theorem dX4_read_99 : decode cX4_read 99 = .ok (.ixor, 1) := dk_130 (dk_at dksX4_read_4 5 rfl rfl)
theorem dX4_read_100 : decode cX4_read 100 = .ok (.i2b, 1) := dk_145 (dk_at dksX4_read_4 6 rfl rfl)
theorem dX4_read_101 : decode cX4_read 101 = .ok (.bastore, 1) := dk_84 (dk_at dksX4_read_4 7 rfl rfl)
theorem dX4_read_102 : decode cX4_read 102 = .ok (.return_, 1) := dk_177 (dk_at dksX4_read_4 8 rfl rfl)
abbrev cX4_written : ByteArray := prog_3_method_4_code
def yX4_written : MethodName := ⟨RX4, "written", "(I)I"⟩
def dkwX4_written_0 : List UInt8 := [42, 180, 0, 33, 27, 46, 172]
abbrev dktX4_written_0 : List UInt8 := dkwX4_written_0 ++ []
theorem dksX4_written_0 : cX4_written.data.toList.drop 0 = dktX4_written_0 := by decide +kernel
theorem dX4_written_0 : decode cX4_written 0 = .ok (.aload_n 0, 1) := dk_42 (dk_at dksX4_written_0 0 rfl rfl)
theorem dX4_written_1 : decode cX4_written 1 = .ok (.getfield 33, 3) := dk_180 0 33 (dk_at dksX4_written_0 1 rfl rfl)
theorem dX4_written_4 : decode cX4_written 4 = .ok (.iload_n 1, 1) := dk_27 (dk_at dksX4_written_0 4 rfl rfl)
theorem dX4_written_5 : decode cX4_written 5 = .ok (.iaload, 1) := dk_46 (dk_at dksX4_written_0 5 rfl rfl)
theorem dX4_written_6 : decode cX4_written 6 = .ok (.ireturn, 1) := dk_172 (dk_at dksX4_written_0 6 rfl rfl)
abbrev cX4_isBroken : ByteArray := prog_3_method_5_code
def yX4_isBroken : MethodName := ⟨RX4, "isBroken", "(I)Z"⟩
def dkwX4_isBroken_0 : List UInt8 := [42, 180, 0, 36, 27, 51, 172]
abbrev dktX4_isBroken_0 : List UInt8 := dkwX4_isBroken_0 ++ []
theorem dksX4_isBroken_0 : cX4_isBroken.data.toList.drop 0 = dktX4_isBroken_0 := by decide +kernel
theorem dX4_isBroken_0 : decode cX4_isBroken 0 = .ok (.aload_n 0, 1) := dk_42 (dk_at dksX4_isBroken_0 0 rfl rfl)
theorem dX4_isBroken_1 : decode cX4_isBroken 1 = .ok (.getfield 36, 3) := dk_180 0 36 (dk_at dksX4_isBroken_0 1 rfl rfl)
theorem dX4_isBroken_4 : decode cX4_isBroken 4 = .ok (.iload_n 1, 1) := dk_27 (dk_at dksX4_isBroken_0 4 rfl rfl)
theorem dX4_isBroken_5 : decode cX4_isBroken 5 = .ok (.baload, 1) := dk_51 (dk_at dksX4_isBroken_0 5 rfl rfl)
theorem dX4_isBroken_6 : decode cX4_isBroken 6 = .ok (.ireturn, 1) := dk_172 (dk_at dksX4_isBroken_0 6 rfl rfl)
abbrev cX4_isWeak : ByteArray := prog_3_method_6_code
def yX4_isWeak : MethodName := ⟨RX4, "isWeak", "(I)Z"⟩
def dkwX4_isWeak_0 : List UInt8 := [42, 180, 0, 39, 27, 51, 172]
abbrev dktX4_isWeak_0 : List UInt8 := dkwX4_isWeak_0 ++ []
theorem dksX4_isWeak_0 : cX4_isWeak.data.toList.drop 0 = dktX4_isWeak_0 := by decide +kernel
theorem dX4_isWeak_0 : decode cX4_isWeak 0 = .ok (.aload_n 0, 1) := dk_42 (dk_at dksX4_isWeak_0 0 rfl rfl)
theorem dX4_isWeak_1 : decode cX4_isWeak 1 = .ok (.getfield 39, 3) := dk_180 0 39 (dk_at dksX4_isWeak_0 1 rfl rfl)
theorem dX4_isWeak_4 : decode cX4_isWeak 4 = .ok (.iload_n 1, 1) := dk_27 (dk_at dksX4_isWeak_0 4 rfl rfl)
theorem dX4_isWeak_5 : decode cX4_isWeak 5 = .ok (.baload, 1) := dk_51 (dk_at dksX4_isWeak_0 5 rfl rfl)
theorem dX4_isWeak_6 : decode cX4_isWeak 6 = .ok (.ireturn, 1) := dk_172 (dk_at dksX4_isWeak_0 6 rfl rfl)
abbrev cX4_failIn : ByteArray := prog_3_method_8_code
def yX4_failIn : MethodName := ⟨RX4, "failIn", "(I)V"⟩
def dkwX4_failIn_0 : List UInt8 := [42, 27, 4, 100, 181, 0, 9, 177]
abbrev dktX4_failIn_0 : List UInt8 := dkwX4_failIn_0 ++ []
theorem dksX4_failIn_0 : cX4_failIn.data.toList.drop 0 = dktX4_failIn_0 := by decide +kernel
theorem dX4_failIn_0 : decode cX4_failIn 0 = .ok (.aload_n 0, 1) := dk_42 (dk_at dksX4_failIn_0 0 rfl rfl)
theorem dX4_failIn_1 : decode cX4_failIn 1 = .ok (.iload_n 1, 1) := dk_27 (dk_at dksX4_failIn_0 1 rfl rfl)
theorem dX4_failIn_2 : decode cX4_failIn 2 = .ok (.iconst 1, 1) := dk_4 (dk_at dksX4_failIn_0 2 rfl rfl)
theorem dX4_failIn_3 : decode cX4_failIn 3 = .ok (.isub, 1) := dk_100 (dk_at dksX4_failIn_0 3 rfl rfl)
theorem dX4_failIn_4 : decode cX4_failIn 4 = .ok (.putfield 9, 3) := dk_181 0 9 (dk_at dksX4_failIn_0 4 rfl rfl)
theorem dX4_failIn_7 : decode cX4_failIn 7 = .ok (.return_, 1) := dk_177 (dk_at dksX4_failIn_0 7 rfl rfl)
abbrev cX4_turn : ByteArray := prog_3_method_12_code
def yX4_turn : MethodName := ⟨RX4, "turn", "(I)V"⟩
def dkwX4_turn_8 : List UInt8 := [132, 5, 1, 167, 255, 153, 177]
abbrev dktX4_turn_8 : List UInt8 := dkwX4_turn_8 ++ []
def dkwX4_turn_7 : List UInt8 := [145, 130, 145, 84, 42, 180, 0, 29, 21, 7, 4, 84, 177, 132, 3, 255, 132, 6, 1, 167, 255, 171]
abbrev dktX4_turn_7 : List UInt8 := dkwX4_turn_7 ++ dktX4_turn_8
def dkwX4_turn_6 : List UInt8 := [180, 0, 21, 21, 7, 17, 0, 128, 104, 21, 4, 16, 8, 108, 96, 92, 51, 4, 21, 4, 16, 8, 112, 120]
abbrev dktX4_turn_6 : List UInt8 := dkwX4_turn_6 ++ dktX4_turn_7
def dkwX4_turn_5 : List UInt8 := [104, 21, 6, 96, 54, 7, 42, 180, 0, 29, 21, 7, 51, 153, 0, 6, 167, 0, 48, 29, 154, 0, 41, 42]
abbrev dktX4_turn_5 : List UInt8 := dkwX4_turn_5 ++ dktX4_turn_6
def dkwX4_turn_4 : List UInt8 := [162, 0, 100, 3, 54, 6, 21, 6, 42, 180, 0, 33, 21, 5, 46, 162, 0, 79, 21, 5, 42, 180, 0, 18]
abbrev dktX4_turn_4 : List UInt8 := dkwX4_turn_4 ++ dktX4_turn_5
def dkwX4_turn_3 : List UInt8 := [17, 4, 0, 108, 28, 112, 62, 27, 17, 4, 0, 112, 54, 4, 3, 54, 5, 21, 5, 42, 180, 0, 15]
abbrev dktX4_turn_3 : List UInt8 := dkwX4_turn_3 ++ dktX4_turn_4
def dkwX4_turn_2 : List UInt8 := [167, 0, 4, 4, 96, 61, 132, 4, 1, 167, 255, 217, 132, 3, 1, 167, 255, 200, 28, 154, 0, 4, 177, 27]
abbrev dktX4_turn_2 : List UInt8 := dkwX4_turn_2 ++ dktX4_turn_3
def dkwX4_turn_1 : List UInt8 := [162, 0, 34, 28, 42, 180, 0, 29, 29, 42, 180, 0, 18, 104, 21, 4, 96, 51, 153, 0, 7, 3]
abbrev dktX4_turn_1 : List UInt8 := dkwX4_turn_1 ++ dktX4_turn_2
def dkwX4_turn_0 : List UInt8 := [3, 61, 3, 62, 29, 42, 180, 0, 15, 162, 0, 54, 3, 54, 4, 21, 4, 42, 180, 0, 33, 29, 46]
abbrev dktX4_turn_0 : List UInt8 := dkwX4_turn_0 ++ dktX4_turn_1
theorem dksX4_turn_0 : cX4_turn.data.toList.drop 0 = dktX4_turn_0 := by decide +kernel
theorem dksX4_turn_1 : cX4_turn.data.toList.drop 23 = dktX4_turn_1 := dk_seg dksX4_turn_0 23 rfl rfl
theorem dksX4_turn_2 : cX4_turn.data.toList.drop 45 = dktX4_turn_2 := dk_seg dksX4_turn_1 22 rfl rfl
theorem dksX4_turn_3 : cX4_turn.data.toList.drop 69 = dktX4_turn_3 := dk_seg dksX4_turn_2 24 rfl rfl
theorem dksX4_turn_4 : cX4_turn.data.toList.drop 92 = dktX4_turn_4 := dk_seg dksX4_turn_3 23 rfl rfl
theorem dksX4_turn_5 : cX4_turn.data.toList.drop 116 = dktX4_turn_5 := dk_seg dksX4_turn_4 24 rfl rfl
theorem dksX4_turn_6 : cX4_turn.data.toList.drop 140 = dktX4_turn_6 := dk_seg dksX4_turn_5 24 rfl rfl
theorem dksX4_turn_7 : cX4_turn.data.toList.drop 164 = dktX4_turn_7 := dk_seg dksX4_turn_6 24 rfl rfl
theorem dksX4_turn_8 : cX4_turn.data.toList.drop 186 = dktX4_turn_8 := dk_seg dksX4_turn_7 22 rfl rfl
theorem dX4_turn_0 : decode cX4_turn 0 = .ok (.iconst 0, 1) := dk_3 (dk_at dksX4_turn_0 0 rfl rfl)
theorem dX4_turn_1 : decode cX4_turn 1 = .ok (.istore_n 2, 1) := dk_61 (dk_at dksX4_turn_0 1 rfl rfl)
theorem dX4_turn_2 : decode cX4_turn 2 = .ok (.iconst 0, 1) := dk_3 (dk_at dksX4_turn_0 2 rfl rfl)
theorem dX4_turn_3 : decode cX4_turn 3 = .ok (.istore_n 3, 1) := dk_62 (dk_at dksX4_turn_0 3 rfl rfl)
theorem dX4_turn_4 : decode cX4_turn 4 = .ok (.iload_n 3, 1) := dk_29 (dk_at dksX4_turn_0 4 rfl rfl)
theorem dX4_turn_5 : decode cX4_turn 5 = .ok (.aload_n 0, 1) := dk_42 (dk_at dksX4_turn_0 5 rfl rfl)
theorem dX4_turn_6 : decode cX4_turn 6 = .ok (.getfield 15, 3) := dk_180 0 15 (dk_at dksX4_turn_0 6 rfl rfl)
theorem dX4_turn_9 : decode cX4_turn 9 = .ok (.if_icmp .ge 54, 3) := dk_162 0 54 (dk_at dksX4_turn_0 9 rfl rfl)
theorem dX4_turn_12 : decode cX4_turn 12 = .ok (.iconst 0, 1) := dk_3 (dk_at dksX4_turn_0 12 rfl rfl)
theorem dX4_turn_13 : decode cX4_turn 13 = .ok (.istore 4, 2) := dk_54 4 (dk_at dksX4_turn_0 13 rfl rfl)
theorem dX4_turn_15 : decode cX4_turn 15 = .ok (.iload 4, 2) := dk_21 4 (dk_at dksX4_turn_0 15 rfl rfl)
theorem dX4_turn_17 : decode cX4_turn 17 = .ok (.aload_n 0, 1) := dk_42 (dk_at dksX4_turn_0 17 rfl rfl)
theorem dX4_turn_18 : decode cX4_turn 18 = .ok (.getfield 33, 3) := dk_180 0 33 (dk_at dksX4_turn_0 18 rfl rfl)
theorem dX4_turn_21 : decode cX4_turn 21 = .ok (.iload_n 3, 1) := dk_29 (dk_at dksX4_turn_0 21 rfl rfl)
theorem dX4_turn_22 : decode cX4_turn 22 = .ok (.iaload, 1) := dk_46 (dk_at dksX4_turn_0 22 rfl rfl)
theorem dX4_turn_23 : decode cX4_turn 23 = .ok (.if_icmp .ge 34, 3) := dk_162 0 34 (dk_at dksX4_turn_1 0 rfl rfl)
theorem dX4_turn_26 : decode cX4_turn 26 = .ok (.iload_n 2, 1) := dk_28 (dk_at dksX4_turn_1 3 rfl rfl)
theorem dX4_turn_27 : decode cX4_turn 27 = .ok (.aload_n 0, 1) := dk_42 (dk_at dksX4_turn_1 4 rfl rfl)
theorem dX4_turn_28 : decode cX4_turn 28 = .ok (.getfield 29, 3) := dk_180 0 29 (dk_at dksX4_turn_1 5 rfl rfl)
theorem dX4_turn_31 : decode cX4_turn 31 = .ok (.iload_n 3, 1) := dk_29 (dk_at dksX4_turn_1 8 rfl rfl)
theorem dX4_turn_32 : decode cX4_turn 32 = .ok (.aload_n 0, 1) := dk_42 (dk_at dksX4_turn_1 9 rfl rfl)
theorem dX4_turn_33 : decode cX4_turn 33 = .ok (.getfield 18, 3) := dk_180 0 18 (dk_at dksX4_turn_1 10 rfl rfl)
theorem dX4_turn_36 : decode cX4_turn 36 = .ok (.imul, 1) := dk_104 (dk_at dksX4_turn_1 13 rfl rfl)
theorem dX4_turn_37 : decode cX4_turn 37 = .ok (.iload 4, 2) := dk_21 4 (dk_at dksX4_turn_1 14 rfl rfl)
theorem dX4_turn_39 : decode cX4_turn 39 = .ok (.iadd, 1) := dk_96 (dk_at dksX4_turn_1 16 rfl rfl)
theorem dX4_turn_40 : decode cX4_turn 40 = .ok (.baload, 1) := dk_51 (dk_at dksX4_turn_1 17 rfl rfl)
theorem dX4_turn_41 : decode cX4_turn 41 = .ok (.ifCond .eq 7, 3) := dk_153 0 7 (dk_at dksX4_turn_1 18 rfl rfl)
theorem dX4_turn_44 : decode cX4_turn 44 = .ok (.iconst 0, 1) := dk_3 (dk_at dksX4_turn_1 21 rfl rfl)
theorem dX4_turn_45 : decode cX4_turn 45 = .ok (.goto 4, 3) := dk_167 0 4 (dk_at dksX4_turn_2 0 rfl rfl)
theorem dX4_turn_48 : decode cX4_turn 48 = .ok (.iconst 1, 1) := dk_4 (dk_at dksX4_turn_2 3 rfl rfl)
theorem dX4_turn_49 : decode cX4_turn 49 = .ok (.iadd, 1) := dk_96 (dk_at dksX4_turn_2 4 rfl rfl)
theorem dX4_turn_50 : decode cX4_turn 50 = .ok (.istore_n 2, 1) := dk_61 (dk_at dksX4_turn_2 5 rfl rfl)
theorem dX4_turn_51 : decode cX4_turn 51 = .ok (.iinc 4 1, 3) := dk_132 4 1 (dk_at dksX4_turn_2 6 rfl rfl)
theorem dX4_turn_54 : decode cX4_turn 54 = .ok (.goto (-39), 3) := dk_167 255 217 (dk_at dksX4_turn_2 9 rfl rfl)
theorem dX4_turn_57 : decode cX4_turn 57 = .ok (.iinc 3 1, 3) := dk_132 3 1 (dk_at dksX4_turn_2 12 rfl rfl)
theorem dX4_turn_60 : decode cX4_turn 60 = .ok (.goto (-56), 3) := dk_167 255 200 (dk_at dksX4_turn_2 15 rfl rfl)
theorem dX4_turn_63 : decode cX4_turn 63 = .ok (.iload_n 2, 1) := dk_28 (dk_at dksX4_turn_2 18 rfl rfl)
theorem dX4_turn_64 : decode cX4_turn 64 = .ok (.ifCond .ne 4, 3) := dk_154 0 4 (dk_at dksX4_turn_2 19 rfl rfl)
theorem dX4_turn_67 : decode cX4_turn 67 = .ok (.return_, 1) := dk_177 (dk_at dksX4_turn_2 22 rfl rfl)
theorem dX4_turn_68 : decode cX4_turn 68 = .ok (.iload_n 1, 1) := dk_27 (dk_at dksX4_turn_2 23 rfl rfl)
theorem dX4_turn_69 : decode cX4_turn 69 = .ok (.sipush 1024, 3) := dk_17 4 0 (dk_at dksX4_turn_3 0 rfl rfl)
theorem dX4_turn_72 : decode cX4_turn 72 = .ok (.idiv, 1) := dk_108 (dk_at dksX4_turn_3 3 rfl rfl)
theorem dX4_turn_73 : decode cX4_turn 73 = .ok (.iload_n 2, 1) := dk_28 (dk_at dksX4_turn_3 4 rfl rfl)
theorem dX4_turn_74 : decode cX4_turn 74 = .ok (.irem, 1) := dk_112 (dk_at dksX4_turn_3 5 rfl rfl)
theorem dX4_turn_75 : decode cX4_turn 75 = .ok (.istore_n 3, 1) := dk_62 (dk_at dksX4_turn_3 6 rfl rfl)
theorem dX4_turn_76 : decode cX4_turn 76 = .ok (.iload_n 1, 1) := dk_27 (dk_at dksX4_turn_3 7 rfl rfl)
theorem dX4_turn_77 : decode cX4_turn 77 = .ok (.sipush 1024, 3) := dk_17 4 0 (dk_at dksX4_turn_3 8 rfl rfl)
theorem dX4_turn_80 : decode cX4_turn 80 = .ok (.irem, 1) := dk_112 (dk_at dksX4_turn_3 11 rfl rfl)
theorem dX4_turn_81 : decode cX4_turn 81 = .ok (.istore 4, 2) := dk_54 4 (dk_at dksX4_turn_3 12 rfl rfl)
theorem dX4_turn_83 : decode cX4_turn 83 = .ok (.iconst 0, 1) := dk_3 (dk_at dksX4_turn_3 14 rfl rfl)
theorem dX4_turn_84 : decode cX4_turn 84 = .ok (.istore 5, 2) := dk_54 5 (dk_at dksX4_turn_3 15 rfl rfl)
theorem dX4_turn_86 : decode cX4_turn 86 = .ok (.iload 5, 2) := dk_21 5 (dk_at dksX4_turn_3 17 rfl rfl)
theorem dX4_turn_88 : decode cX4_turn 88 = .ok (.aload_n 0, 1) := dk_42 (dk_at dksX4_turn_3 19 rfl rfl)
theorem dX4_turn_89 : decode cX4_turn 89 = .ok (.getfield 15, 3) := dk_180 0 15 (dk_at dksX4_turn_3 20 rfl rfl)
theorem dX4_turn_92 : decode cX4_turn 92 = .ok (.if_icmp .ge 100, 3) := dk_162 0 100 (dk_at dksX4_turn_4 0 rfl rfl)
theorem dX4_turn_95 : decode cX4_turn 95 = .ok (.iconst 0, 1) := dk_3 (dk_at dksX4_turn_4 3 rfl rfl)
theorem dX4_turn_96 : decode cX4_turn 96 = .ok (.istore 6, 2) := dk_54 6 (dk_at dksX4_turn_4 4 rfl rfl)
theorem dX4_turn_98 : decode cX4_turn 98 = .ok (.iload 6, 2) := dk_21 6 (dk_at dksX4_turn_4 6 rfl rfl)
theorem dX4_turn_100 : decode cX4_turn 100 = .ok (.aload_n 0, 1) := dk_42 (dk_at dksX4_turn_4 8 rfl rfl)
theorem dX4_turn_101 : decode cX4_turn 101 = .ok (.getfield 33, 3) := dk_180 0 33 (dk_at dksX4_turn_4 9 rfl rfl)
theorem dX4_turn_104 : decode cX4_turn 104 = .ok (.iload 5, 2) := dk_21 5 (dk_at dksX4_turn_4 12 rfl rfl)
theorem dX4_turn_106 : decode cX4_turn 106 = .ok (.iaload, 1) := dk_46 (dk_at dksX4_turn_4 14 rfl rfl)
theorem dX4_turn_107 : decode cX4_turn 107 = .ok (.if_icmp .ge 79, 3) := dk_162 0 79 (dk_at dksX4_turn_4 15 rfl rfl)
theorem dX4_turn_110 : decode cX4_turn 110 = .ok (.iload 5, 2) := dk_21 5 (dk_at dksX4_turn_4 18 rfl rfl)
theorem dX4_turn_112 : decode cX4_turn 112 = .ok (.aload_n 0, 1) := dk_42 (dk_at dksX4_turn_4 20 rfl rfl)
theorem dX4_turn_113 : decode cX4_turn 113 = .ok (.getfield 18, 3) := dk_180 0 18 (dk_at dksX4_turn_4 21 rfl rfl)
theorem dX4_turn_116 : decode cX4_turn 116 = .ok (.imul, 1) := dk_104 (dk_at dksX4_turn_5 0 rfl rfl)
theorem dX4_turn_117 : decode cX4_turn 117 = .ok (.iload 6, 2) := dk_21 6 (dk_at dksX4_turn_5 1 rfl rfl)
theorem dX4_turn_119 : decode cX4_turn 119 = .ok (.iadd, 1) := dk_96 (dk_at dksX4_turn_5 3 rfl rfl)
theorem dX4_turn_120 : decode cX4_turn 120 = .ok (.istore 7, 2) := dk_54 7 (dk_at dksX4_turn_5 4 rfl rfl)
theorem dX4_turn_122 : decode cX4_turn 122 = .ok (.aload_n 0, 1) := dk_42 (dk_at dksX4_turn_5 6 rfl rfl)
theorem dX4_turn_123 : decode cX4_turn 123 = .ok (.getfield 29, 3) := dk_180 0 29 (dk_at dksX4_turn_5 7 rfl rfl)
theorem dX4_turn_126 : decode cX4_turn 126 = .ok (.iload 7, 2) := dk_21 7 (dk_at dksX4_turn_5 10 rfl rfl)
theorem dX4_turn_128 : decode cX4_turn 128 = .ok (.baload, 1) := dk_51 (dk_at dksX4_turn_5 12 rfl rfl)
theorem dX4_turn_129 : decode cX4_turn 129 = .ok (.ifCond .eq 6, 3) := dk_153 0 6 (dk_at dksX4_turn_5 13 rfl rfl)
theorem dX4_turn_132 : decode cX4_turn 132 = .ok (.goto 48, 3) := dk_167 0 48 (dk_at dksX4_turn_5 16 rfl rfl)
theorem dX4_turn_135 : decode cX4_turn 135 = .ok (.iload_n 3, 1) := dk_29 (dk_at dksX4_turn_5 19 rfl rfl)
theorem dX4_turn_136 : decode cX4_turn 136 = .ok (.ifCond .ne 41, 3) := dk_154 0 41 (dk_at dksX4_turn_5 20 rfl rfl)
theorem dX4_turn_139 : decode cX4_turn 139 = .ok (.aload_n 0, 1) := dk_42 (dk_at dksX4_turn_5 23 rfl rfl)
theorem dX4_turn_140 : decode cX4_turn 140 = .ok (.getfield 21, 3) := dk_180 0 21 (dk_at dksX4_turn_6 0 rfl rfl)
theorem dX4_turn_143 : decode cX4_turn 143 = .ok (.iload 7, 2) := dk_21 7 (dk_at dksX4_turn_6 3 rfl rfl)
theorem dX4_turn_145 : decode cX4_turn 145 = .ok (.sipush 128, 3) := dk_17 0 128 (dk_at dksX4_turn_6 5 rfl rfl)
theorem dX4_turn_148 : decode cX4_turn 148 = .ok (.imul, 1) := dk_104 (dk_at dksX4_turn_6 8 rfl rfl)
theorem dX4_turn_149 : decode cX4_turn 149 = .ok (.iload 4, 2) := dk_21 4 (dk_at dksX4_turn_6 9 rfl rfl)
theorem dX4_turn_151 : decode cX4_turn 151 = .ok (.bipush 8, 2) := dk_16 8 (dk_at dksX4_turn_6 11 rfl rfl)
theorem dX4_turn_153 : decode cX4_turn 153 = .ok (.idiv, 1) := dk_108 (dk_at dksX4_turn_6 13 rfl rfl)
theorem dX4_turn_154 : decode cX4_turn 154 = .ok (.iadd, 1) := dk_96 (dk_at dksX4_turn_6 14 rfl rfl)
theorem dX4_turn_155 : decode cX4_turn 155 = .ok (.dup2, 1) := dk_92 (dk_at dksX4_turn_6 15 rfl rfl)
theorem dX4_turn_156 : decode cX4_turn 156 = .ok (.baload, 1) := dk_51 (dk_at dksX4_turn_6 16 rfl rfl)
theorem dX4_turn_157 : decode cX4_turn 157 = .ok (.iconst 1, 1) := dk_4 (dk_at dksX4_turn_6 17 rfl rfl)
theorem dX4_turn_158 : decode cX4_turn 158 = .ok (.iload 4, 2) := dk_21 4 (dk_at dksX4_turn_6 18 rfl rfl)
theorem dX4_turn_160 : decode cX4_turn 160 = .ok (.bipush 8, 2) := dk_16 8 (dk_at dksX4_turn_6 20 rfl rfl)
theorem dX4_turn_162 : decode cX4_turn 162 = .ok (.irem, 1) := dk_112 (dk_at dksX4_turn_6 22 rfl rfl)
theorem dX4_turn_163 : decode cX4_turn 163 = .ok (.ishl, 1) := dk_120 (dk_at dksX4_turn_6 23 rfl rfl)
theorem dX4_turn_164 : decode cX4_turn 164 = .ok (.i2b, 1) := dk_145 (dk_at dksX4_turn_7 0 rfl rfl)
theorem dX4_turn_165 : decode cX4_turn 165 = .ok (.ixor, 1) := dk_130 (dk_at dksX4_turn_7 1 rfl rfl)
theorem dX4_turn_166 : decode cX4_turn 166 = .ok (.i2b, 1) := dk_145 (dk_at dksX4_turn_7 2 rfl rfl)
theorem dX4_turn_167 : decode cX4_turn 167 = .ok (.bastore, 1) := dk_84 (dk_at dksX4_turn_7 3 rfl rfl)
theorem dX4_turn_168 : decode cX4_turn 168 = .ok (.aload_n 0, 1) := dk_42 (dk_at dksX4_turn_7 4 rfl rfl)
theorem dX4_turn_169 : decode cX4_turn 169 = .ok (.getfield 29, 3) := dk_180 0 29 (dk_at dksX4_turn_7 5 rfl rfl)
theorem dX4_turn_172 : decode cX4_turn 172 = .ok (.iload 7, 2) := dk_21 7 (dk_at dksX4_turn_7 8 rfl rfl)
theorem dX4_turn_174 : decode cX4_turn 174 = .ok (.iconst 1, 1) := dk_4 (dk_at dksX4_turn_7 10 rfl rfl)
theorem dX4_turn_175 : decode cX4_turn 175 = .ok (.bastore, 1) := dk_84 (dk_at dksX4_turn_7 11 rfl rfl)
theorem dX4_turn_176 : decode cX4_turn 176 = .ok (.return_, 1) := dk_177 (dk_at dksX4_turn_7 12 rfl rfl)
theorem dX4_turn_177 : decode cX4_turn 177 = .ok (.iinc 3 (-1), 3) := dk_132 3 255 (dk_at dksX4_turn_7 13 rfl rfl)
theorem dX4_turn_180 : decode cX4_turn 180 = .ok (.iinc 6 1, 3) := dk_132 6 1 (dk_at dksX4_turn_7 16 rfl rfl)
theorem dX4_turn_183 : decode cX4_turn 183 = .ok (.goto (-85), 3) := dk_167 255 171 (dk_at dksX4_turn_7 19 rfl rfl)
theorem dX4_turn_186 : decode cX4_turn 186 = .ok (.iinc 5 1, 3) := dk_132 5 1 (dk_at dksX4_turn_8 0 rfl rfl)
theorem dX4_turn_189 : decode cX4_turn 189 = .ok (.goto (-103), 3) := dk_167 255 153 (dk_at dksX4_turn_8 3 rfl rfl)
theorem dX4_turn_192 : decode cX4_turn 192 = .ok (.return_, 1) := dk_177 (dk_at dksX4_turn_8 6 rfl rfl)
theorem q134 : (Jvm.Cond.initialized "NandHouse$Flash") ∈ lw_all := lw_g (lw_at lw_m1 4 rfl) rfl
theorem q212 : (Jvm.Cond.instantiable "NandHouse$Flash" (9 : Nat)) ∈ lw_all := lw_g (lw_at lw_m1 82 rfl) rfl
theorem q214 : (Jvm.Cond.instanceMethod ({ cls := "NandHouse$Flash", name := "<init>", desc := "(II)V" } : Jvm.MethodName)) ∈ lw_all := lw_g (lw_at lw_m1 84 rfl) rfl
theorem q215 : (Jvm.Cond.code ({ cls := "NandHouse$Flash", name := "<init>", desc := "(II)V" } : Jvm.MethodName) prog_3_method_1_code (3 : Nat) (Option.none : Option Jvm.ClassFile.FieldType)) ∈ lw_all := lw_g (lw_at lw_m1 85 rfl) rfl
theorem q216 : (Jvm.Cond.methodLink "NandHouse$Flash" (3 : Nat) ({ cls := "java/lang/Object", name := "<init>", desc := "()V" } : Jvm.MethodName)) ∈ lw_all := lw_g (lw_at lw_m1 86 rfl) rfl
theorem q217 : (Jvm.Cond.methodLink "NandHouse$Flash" (42 : Nat) ({ cls := "java/util/Arrays", name := "fill", desc := "([BB)V" } : Jvm.MethodName)) ∈ lw_all := lw_g (lw_at lw_m1 87 rfl) rfl
theorem q220 : (Jvm.Cond.fieldLink "NandHouse$Flash" (15 : Nat) "NandHouse$Flash" "blocks" "I") ∈ lw_all := lw_g (lw_at lw_m1 90 rfl) rfl
theorem q223 : (Jvm.Cond.fieldLink "NandHouse$Flash" (18 : Nat) "NandHouse$Flash" "pages" "I") ∈ lw_all := lw_g (lw_at lw_m1 93 rfl) rfl
theorem q225 : (Jvm.Cond.fieldLink "NandHouse$Flash" (21 : Nat) "NandHouse$Flash" "cells" "[B") ∈ lw_all := lw_g (lw_at lw_m1 95 rfl) rfl
theorem q226 : (Jvm.Cond.fieldLink "NandHouse$Flash" (25 : Nat) "NandHouse$Flash" "guards" "[I") ∈ lw_all := lw_g (lw_at lw_m1 96 rfl) rfl
theorem q227 : (Jvm.Cond.fieldLink "NandHouse$Flash" (29 : Nat) "NandHouse$Flash" "turned" "[Z") ∈ lw_all := lw_g (lw_at lw_m1 97 rfl) rfl
theorem q228 : (Jvm.Cond.fieldLink "NandHouse$Flash" (33 : Nat) "NandHouse$Flash" "written" "[I") ∈ lw_all := lw_g (lw_at lw_m1 98 rfl) rfl
theorem q229 : (Jvm.Cond.fieldLink "NandHouse$Flash" (36 : Nat) "NandHouse$Flash" "broken" "[Z") ∈ lw_all := lw_g (lw_at lw_m1 99 rfl) rfl
theorem q230 : (Jvm.Cond.fieldLink "NandHouse$Flash" (39 : Nat) "NandHouse$Flash" "weak" "[Z") ∈ lw_all := lw_g (lw_at lw_m1 100 rfl) rfl
theorem q231 : (Jvm.Cond.fieldLink "NandHouse$Flash" (9 : Nat) "NandHouse$Flash" "failIn" "I") ∈ lw_all := lw_g (lw_at lw_m1 101 rfl) rfl
theorem q232 : (Jvm.Cond.laysFinal "NandHouse$Flash" "NandHouse$Flash" "blocks" "I") ∈ lw_all := lw_g (lw_at lw_m1 102 rfl) rfl
theorem q233 : (Jvm.Cond.soleField "NandHouse$Flash" "blocks") ∈ lw_all := lw_g (lw_at lw_m1 103 rfl) rfl
theorem q234 : (Jvm.Cond.laysFinal "NandHouse$Flash" "NandHouse$Flash" "pages" "I") ∈ lw_all := lw_g (lw_at lw_m1 104 rfl) rfl
theorem q235 : (Jvm.Cond.soleField "NandHouse$Flash" "pages") ∈ lw_all := lw_g (lw_at lw_m1 105 rfl) rfl
theorem q236 : (Jvm.Cond.laysFinal "NandHouse$Flash" "NandHouse$Flash" "cells" "[B") ∈ lw_all := lw_g (lw_at lw_m1 106 rfl) rfl
theorem q237 : (Jvm.Cond.soleField "NandHouse$Flash" "cells") ∈ lw_all := lw_g (lw_at lw_m1 107 rfl) rfl
theorem q238 : (Jvm.Cond.laysFinal "NandHouse$Flash" "NandHouse$Flash" "guards" "[I") ∈ lw_all := lw_g (lw_at lw_m1 108 rfl) rfl
theorem q239 : (Jvm.Cond.soleField "NandHouse$Flash" "guards") ∈ lw_all := lw_g (lw_at lw_m1 109 rfl) rfl
theorem q240 : (Jvm.Cond.laysFinal "NandHouse$Flash" "NandHouse$Flash" "turned" "[Z") ∈ lw_all := lw_g (lw_at lw_m1 110 rfl) rfl
theorem q241 : (Jvm.Cond.soleField "NandHouse$Flash" "turned") ∈ lw_all := lw_g (lw_at lw_m1 111 rfl) rfl
theorem q242 : (Jvm.Cond.laysFinal "NandHouse$Flash" "NandHouse$Flash" "written" "[I") ∈ lw_all := lw_g (lw_at lw_m1 112 rfl) rfl
theorem q243 : (Jvm.Cond.soleField "NandHouse$Flash" "written") ∈ lw_all := lw_g (lw_at lw_m1 113 rfl) rfl
theorem q244 : (Jvm.Cond.laysFinal "NandHouse$Flash" "NandHouse$Flash" "broken" "[Z") ∈ lw_all := lw_g (lw_at lw_m1 114 rfl) rfl
theorem q245 : (Jvm.Cond.soleField "NandHouse$Flash" "broken") ∈ lw_all := lw_g (lw_at lw_m1 115 rfl) rfl
theorem q246 : (Jvm.Cond.laysFinal "NandHouse$Flash" "NandHouse$Flash" "weak" "[Z") ∈ lw_all := lw_g (lw_at lw_m1 116 rfl) rfl
theorem q247 : (Jvm.Cond.soleField "NandHouse$Flash" "weak") ∈ lw_all := lw_g (lw_at lw_m1 117 rfl) rfl
theorem q248 : (Jvm.Cond.lays "NandHouse$Flash" "NandHouse$Flash" "failIn" "I") ∈ lw_all := lw_g (lw_at lw_m1 118 rfl) rfl
theorem q249 : (Jvm.Cond.soleField "NandHouse$Flash" "failIn") ∈ lw_all := lw_g (lw_at lw_m1 119 rfl) rfl
theorem q250 : (Jvm.Cond.superclass "NandHouse$Flash" "java/lang/Object") ∈ lw_all := lw_g (lw_at lw_m1 120 rfl) rfl
theorem q660 : (Jvm.Cond.instanceMethod ({ cls := "NandHouse$Flash", name := "erase", desc := "(I)Z" } : Jvm.MethodName)) ∈ lw_all := lw_g (lw_at lw_m3 50 rfl) rfl
theorem q661 : (Jvm.Cond.selects "NandHouse$Flash" ({ cls := "NandHouse$Flash", name := "erase", desc := "(I)Z" } : Jvm.MethodName) ({ cls := "NandHouse$Flash", name := "erase", desc := "(I)Z" } : Jvm.MethodName)) ∈ lw_all := lw_g (lw_at lw_m3 51 rfl) rfl
theorem q662 : (Jvm.Cond.code ({ cls := "NandHouse$Flash", name := "erase", desc := "(I)Z" } : Jvm.MethodName) prog_3_method_10_code (3 : Nat) (Option.some Jvm.ClassFile.FieldType.boolean)) ∈ lw_all := lw_g (lw_at lw_m3 52 rfl) rfl
theorem q663 : (Jvm.Cond.methodLink "NandHouse$Flash" (48 : Nat) ({ cls := "NandHouse$Flash", name := "fails", desc := "()Z" } : Jvm.MethodName)) ∈ lw_all := lw_g (lw_at lw_m3 53 rfl) rfl
theorem q664 : (Jvm.Cond.privateMethod ({ cls := "NandHouse$Flash", name := "fails", desc := "()Z" } : Jvm.MethodName)) ∈ lw_tbl := lw_at lw_m3 54 rfl
theorem q665 : (Jvm.Cond.instanceMethod ({ cls := "NandHouse$Flash", name := "fails", desc := "()Z" } : Jvm.MethodName)) ∈ lw_all := lw_g (lw_at lw_m3 55 rfl) rfl
theorem q666 : (Jvm.Cond.code ({ cls := "NandHouse$Flash", name := "fails", desc := "()Z" } : Jvm.MethodName) prog_3_method_2_code (1 : Nat) (Option.some Jvm.ClassFile.FieldType.boolean)) ∈ lw_all := lw_g (lw_at lw_m3 56 rfl) rfl
theorem q667 : (Jvm.Cond.methodLink "NandHouse$Flash" (62 : Nat) ({ cls := "java/util/Arrays", name := "fill", desc := "([BIIB)V" } : Jvm.MethodName)) ∈ lw_all := lw_g (lw_at lw_m3 57 rfl) rfl
theorem q673 : (Jvm.Cond.methodLink "NandHouse$Flash" (65 : Nat) ({ cls := "java/util/Arrays", name := "fill", desc := "([IIII)V" } : Jvm.MethodName)) ∈ lw_all := lw_g (lw_at lw_m3 63 rfl) rfl
theorem q676 : (Jvm.Cond.methodLink "NandHouse$Flash" (68 : Nat) ({ cls := "java/util/Arrays", name := "fill", desc := "([ZIIZ)V" } : Jvm.MethodName)) ∈ lw_all := lw_g (lw_at lw_m3 66 rfl) rfl
theorem q694 : (Jvm.Cond.instanceMethod ({ cls := "NandHouse$Flash", name := "write", desc := "(II[BI)Z" } : Jvm.MethodName)) ∈ lw_all := lw_g (lw_at lw_m3 84 rfl) rfl
theorem q695 : (Jvm.Cond.selects "NandHouse$Flash" ({ cls := "NandHouse$Flash", name := "write", desc := "(II[BI)Z" } : Jvm.MethodName) ({ cls := "NandHouse$Flash", name := "write", desc := "(II[BI)Z" } : Jvm.MethodName)) ∈ lw_all := lw_g (lw_at lw_m3 85 rfl) rfl
theorem q696 : (Jvm.Cond.code ({ cls := "NandHouse$Flash", name := "write", desc := "(II[BI)Z" } : Jvm.MethodName) prog_3_method_9_code (7 : Nat) (Option.some Jvm.ClassFile.FieldType.boolean)) ∈ lw_all := lw_g (lw_at lw_m3 86 rfl) rfl
theorem q697 : (Jvm.Cond.methodLink "NandHouse$Flash" (52 : Nat) ({ cls := "java/lang/System", name := "arraycopy", desc := "(Ljava/lang/Object;ILjava/lang/Object;II)V" } : Jvm.MethodName)) ∈ lw_all := lw_g (lw_at lw_m3 87 rfl) rfl
theorem q700 : (Jvm.Cond.methodLink "NandHouse$Flash" (58 : Nat) ({ cls := "NandHouse$Flash", name := "guard", desc := "([BI)I" } : Jvm.MethodName)) ∈ lw_all := lw_g (lw_at lw_m3 90 rfl) rfl
theorem q701 : (Jvm.Cond.privateMethod ({ cls := "NandHouse$Flash", name := "guard", desc := "([BI)I" } : Jvm.MethodName)) ∈ lw_tbl := lw_at lw_m3 91 rfl
theorem q702 : (Jvm.Cond.instanceMethod ({ cls := "NandHouse$Flash", name := "guard", desc := "([BI)I" } : Jvm.MethodName)) ∈ lw_all := lw_g (lw_at lw_m3 92 rfl) rfl
theorem q703 : (Jvm.Cond.code ({ cls := "NandHouse$Flash", name := "guard", desc := "([BI)I" } : Jvm.MethodName) prog_3_method_3_code (8 : Nat) (Option.some Jvm.ClassFile.FieldType.int)) ∈ lw_all := lw_g (lw_at lw_m3 93 rfl) rfl
theorem q709 : (Jvm.Cond.instanceMethod ({ cls := "NandHouse$Flash", name := "giveUp", desc := "(I)V" } : Jvm.MethodName)) ∈ lw_all := lw_g (lw_at lw_m3 99 rfl) rfl
theorem q710 : (Jvm.Cond.selects "NandHouse$Flash" ({ cls := "NandHouse$Flash", name := "giveUp", desc := "(I)V" } : Jvm.MethodName) ({ cls := "NandHouse$Flash", name := "giveUp", desc := "(I)V" } : Jvm.MethodName)) ∈ lw_all := lw_g (lw_at lw_m3 100 rfl) rfl
theorem q711 : (Jvm.Cond.code ({ cls := "NandHouse$Flash", name := "giveUp", desc := "(I)V" } : Jvm.MethodName) prog_3_method_7_code (2 : Nat) (Option.none : Option Jvm.ClassFile.FieldType)) ∈ lw_all := lw_g (lw_at lw_m3 101 rfl) rfl
theorem q890 : (Jvm.Cond.instanceMethod ({ cls := "NandHouse$Flash", name := "read", desc := "(II[BI)V" } : Jvm.MethodName)) ∈ lw_all := lw_g (lw_at lw_m4 40 rfl) rfl
theorem q891 : (Jvm.Cond.selects "NandHouse$Flash" ({ cls := "NandHouse$Flash", name := "read", desc := "(II[BI)V" } : Jvm.MethodName) ({ cls := "NandHouse$Flash", name := "read", desc := "(II[BI)V" } : Jvm.MethodName)) ∈ lw_all := lw_g (lw_at lw_m4 41 rfl) rfl
theorem q892 : (Jvm.Cond.code ({ cls := "NandHouse$Flash", name := "read", desc := "(II[BI)V" } : Jvm.MethodName) prog_3_method_11_code (8 : Nat) (Option.none : Option Jvm.ClassFile.FieldType)) ∈ lw_all := lw_g (lw_at lw_m4 42 rfl) rfl
theorem q1022 : (Jvm.Cond.instanceMethod ({ cls := "NandHouse$Flash", name := "written", desc := "(I)I" } : Jvm.MethodName)) ∈ lw_all := lw_g (lw_at lw_m4 172 rfl) rfl
theorem q1023 : (Jvm.Cond.selects "NandHouse$Flash" ({ cls := "NandHouse$Flash", name := "written", desc := "(I)I" } : Jvm.MethodName) ({ cls := "NandHouse$Flash", name := "written", desc := "(I)I" } : Jvm.MethodName)) ∈ lw_all := lw_g (lw_at lw_m4 173 rfl) rfl
theorem q1024 : (Jvm.Cond.code ({ cls := "NandHouse$Flash", name := "written", desc := "(I)I" } : Jvm.MethodName) prog_3_method_4_code (2 : Nat) (Option.some Jvm.ClassFile.FieldType.int)) ∈ lw_all := lw_g (lw_at lw_m4 174 rfl) rfl
theorem q1665 : (Jvm.Cond.instanceMethod ({ cls := "NandHouse$Flash", name := "isBroken", desc := "(I)Z" } : Jvm.MethodName)) ∈ lw_all := lw_g (lw_at lw_m7 95 rfl) rfl
theorem q1666 : (Jvm.Cond.selects "NandHouse$Flash" ({ cls := "NandHouse$Flash", name := "isBroken", desc := "(I)Z" } : Jvm.MethodName) ({ cls := "NandHouse$Flash", name := "isBroken", desc := "(I)Z" } : Jvm.MethodName)) ∈ lw_all := lw_g (lw_at lw_m7 96 rfl) rfl
theorem q1667 : (Jvm.Cond.code ({ cls := "NandHouse$Flash", name := "isBroken", desc := "(I)Z" } : Jvm.MethodName) prog_3_method_5_code (2 : Nat) (Option.some Jvm.ClassFile.FieldType.boolean)) ∈ lw_all := lw_g (lw_at lw_m7 97 rfl) rfl
theorem q1759 : (Jvm.Cond.instanceMethod ({ cls := "NandHouse$Flash", name := "isWeak", desc := "(I)Z" } : Jvm.MethodName)) ∈ lw_all := lw_g (lw_at lw_m7 189 rfl) rfl
theorem q1760 : (Jvm.Cond.selects "NandHouse$Flash" ({ cls := "NandHouse$Flash", name := "isWeak", desc := "(I)Z" } : Jvm.MethodName) ({ cls := "NandHouse$Flash", name := "isWeak", desc := "(I)Z" } : Jvm.MethodName)) ∈ lw_all := lw_g (lw_at lw_m7 190 rfl) rfl
theorem q1761 : (Jvm.Cond.code ({ cls := "NandHouse$Flash", name := "isWeak", desc := "(I)Z" } : Jvm.MethodName) prog_3_method_6_code (2 : Nat) (Option.some Jvm.ClassFile.FieldType.boolean)) ∈ lw_all := lw_g (lw_at lw_m7 191 rfl) rfl
theorem q1775 : (Jvm.Cond.instanceMethod ({ cls := "NandHouse$Flash", name := "failIn", desc := "(I)V" } : Jvm.MethodName)) ∈ lw_all := lw_g (lw_at lw_m7 205 rfl) rfl
theorem q1776 : (Jvm.Cond.selects "NandHouse$Flash" ({ cls := "NandHouse$Flash", name := "failIn", desc := "(I)V" } : Jvm.MethodName) ({ cls := "NandHouse$Flash", name := "failIn", desc := "(I)V" } : Jvm.MethodName)) ∈ lw_all := lw_g (lw_at lw_m7 206 rfl) rfl
theorem q1777 : (Jvm.Cond.code ({ cls := "NandHouse$Flash", name := "failIn", desc := "(I)V" } : Jvm.MethodName) prog_3_method_8_code (2 : Nat) (Option.none : Option Jvm.ClassFile.FieldType)) ∈ lw_all := lw_g (lw_at lw_m7 207 rfl) rfl
theorem q1783 : (Jvm.Cond.instanceMethod ({ cls := "NandHouse$Flash", name := "turn", desc := "(I)V" } : Jvm.MethodName)) ∈ lw_all := lw_g (lw_at lw_m7 213 rfl) rfl
theorem q1784 : (Jvm.Cond.selects "NandHouse$Flash" ({ cls := "NandHouse$Flash", name := "turn", desc := "(I)V" } : Jvm.MethodName) ({ cls := "NandHouse$Flash", name := "turn", desc := "(I)V" } : Jvm.MethodName)) ∈ lw_all := lw_g (lw_at lw_m7 214 rfl) rfl
theorem q1785 : (Jvm.Cond.code ({ cls := "NandHouse$Flash", name := "turn", desc := "(I)V" } : Jvm.MethodName) prog_3_method_12_code (8 : Nat) (Option.none : Option Jvm.ClassFile.FieldType)) ∈ lw_all := lw_g (lw_at lw_m7 215 rfl) rfl
theorem in_X4 : ∀ w ∈ wsX40, w ∈ lw_all := lw_in wsX40 [232, 234, 236, 238, 240, 242, 244, 246, 248] (by decide +kernel) (by decide +kernel)
/-! NandHouse$Row -/
set_option maxRecDepth 100000
def RX2 : String := "NandHouse$Row"
def TX2 : u_T := fun k => match k with
  | 0 => ("NandHouse$Row", "bytes", "[B", true)
  | 1 => ("NandHouse$Row", "at", "I", false)
  | _ => ("NandHouse$Row", "end", "I", false)
def tyX2 : Nat → FieldType := fun k => match k with
  | 0 => .array .byte
  | 1 => .int
  | _ => .int
abbrev wsX20 : List Cond := u_ws RX2 TX2 3
theorem nmX2 : ∀ a, a < 3 → ∀ b, b < 3 → a ≠ b → (TX2 a).2.1 ≠ (TX2 b).2.1 := by decide +kernel
theorem tyX2_ok : ∀ k, k < 3 → parseFieldDescriptor (TX2 k).2.2.1 = some (tyX2 k) := by decide +kernel
abbrev cX2_init : ByteArray := prog_7_method_1_code
def yX2_init : MethodName := ⟨RX2, "<init>", "(I)V"⟩
def dkwX2_init_0 : List UInt8 := [42, 183, 0, 3, 42, 27, 188, 8, 181, 0, 9, 177]
abbrev dktX2_init_0 : List UInt8 := dkwX2_init_0 ++ []
theorem dksX2_init_0 : cX2_init.data.toList.drop 0 = dktX2_init_0 := by decide +kernel
theorem dX2_init_0 : decode cX2_init 0 = .ok (.aload_n 0, 1) := dk_42 (dk_at dksX2_init_0 0 rfl rfl)
theorem dX2_init_1 : decode cX2_init 1 = .ok (.invokespecial 3, 3) := dk_183 0 3 (dk_at dksX2_init_0 1 rfl rfl)
theorem dX2_init_4 : decode cX2_init 4 = .ok (.aload_n 0, 1) := dk_42 (dk_at dksX2_init_0 4 rfl rfl)
theorem dX2_init_5 : decode cX2_init 5 = .ok (.iload_n 1, 1) := dk_27 (dk_at dksX2_init_0 5 rfl rfl)
theorem dX2_init_6 : decode cX2_init 6 = .ok (.newarray .byte, 2) := dk_188_8 (dk_at dksX2_init_0 6 rfl rfl)
theorem dX2_init_8 : decode cX2_init 8 = .ok (.putfield 9, 3) := dk_181 0 9 (dk_at dksX2_init_0 8 rfl rfl)
theorem dX2_init_11 : decode cX2_init 11 = .ok (.return_, 1) := dk_177 (dk_at dksX2_init_0 11 rfl rfl)
abbrev cX2_clear : ByteArray := prog_7_method_2_code
def yX2_clear : MethodName := ⟨RX2, "clear", "()V"⟩
def dkwX2_clear_0 : List UInt8 := [42, 3, 181, 0, 15, 42, 3, 181, 0, 19, 177]
abbrev dktX2_clear_0 : List UInt8 := dkwX2_clear_0 ++ []
theorem dksX2_clear_0 : cX2_clear.data.toList.drop 0 = dktX2_clear_0 := by decide +kernel
theorem dX2_clear_0 : decode cX2_clear 0 = .ok (.aload_n 0, 1) := dk_42 (dk_at dksX2_clear_0 0 rfl rfl)
theorem dX2_clear_1 : decode cX2_clear 1 = .ok (.iconst 0, 1) := dk_3 (dk_at dksX2_clear_0 1 rfl rfl)
theorem dX2_clear_2 : decode cX2_clear 2 = .ok (.putfield 15, 3) := dk_181 0 15 (dk_at dksX2_clear_0 2 rfl rfl)
theorem dX2_clear_5 : decode cX2_clear 5 = .ok (.aload_n 0, 1) := dk_42 (dk_at dksX2_clear_0 5 rfl rfl)
theorem dX2_clear_6 : decode cX2_clear 6 = .ok (.iconst 0, 1) := dk_3 (dk_at dksX2_clear_0 6 rfl rfl)
theorem dX2_clear_7 : decode cX2_clear 7 = .ok (.putfield 19, 3) := dk_181 0 19 (dk_at dksX2_clear_0 7 rfl rfl)
theorem dX2_clear_10 : decode cX2_clear 10 = .ok (.return_, 1) := dk_177 (dk_at dksX2_clear_0 10 rfl rfl)
abbrev cX2_begin : ByteArray := prog_7_method_3_code
def yX2_begin : MethodName := ⟨RX2, "begin", "(II)LNandHouse$Row;"⟩
def dkwX2_begin_3 : List UInt8 := [180, 0, 15, 16, 20, 96, 18, 32, 184, 0, 28, 42, 176]
abbrev dktX2_begin_3 : List UInt8 := dkwX2_begin_3 ++ []
def dkwX2_begin_2 : List UInt8 := [184, 0, 28, 42, 180, 0, 9, 42, 180, 0, 15, 16, 16, 96, 27, 145, 84, 42, 180, 0, 9, 42]
abbrev dktX2_begin_2 : List UInt8 := dkwX2_begin_2 ++ dktX2_begin_3
def dkwX2_begin_1 : List UInt8 := [180, 0, 15, 42, 180, 0, 19, 3, 184, 0, 22, 42, 180, 0, 9, 42, 180, 0, 15, 7, 96, 28]
abbrev dktX2_begin_1 : List UInt8 := dkwX2_begin_1 ++ dktX2_begin_2
def dkwX2_begin_0 : List UInt8 := [42, 42, 180, 0, 19, 181, 0, 15, 42, 42, 180, 0, 15, 28, 96, 181, 0, 19, 42, 180, 0, 9, 42]
abbrev dktX2_begin_0 : List UInt8 := dkwX2_begin_0 ++ dktX2_begin_1
theorem dksX2_begin_0 : cX2_begin.data.toList.drop 0 = dktX2_begin_0 := by decide +kernel
theorem dksX2_begin_1 : cX2_begin.data.toList.drop 23 = dktX2_begin_1 := dk_seg dksX2_begin_0 23 rfl rfl
theorem dksX2_begin_2 : cX2_begin.data.toList.drop 45 = dktX2_begin_2 := dk_seg dksX2_begin_1 22 rfl rfl
theorem dksX2_begin_3 : cX2_begin.data.toList.drop 67 = dktX2_begin_3 := dk_seg dksX2_begin_2 22 rfl rfl
theorem dX2_begin_0 : decode cX2_begin 0 = .ok (.aload_n 0, 1) := dk_42 (dk_at dksX2_begin_0 0 rfl rfl)
theorem dX2_begin_1 : decode cX2_begin 1 = .ok (.aload_n 0, 1) := dk_42 (dk_at dksX2_begin_0 1 rfl rfl)
theorem dX2_begin_2 : decode cX2_begin 2 = .ok (.getfield 19, 3) := dk_180 0 19 (dk_at dksX2_begin_0 2 rfl rfl)
theorem dX2_begin_5 : decode cX2_begin 5 = .ok (.putfield 15, 3) := dk_181 0 15 (dk_at dksX2_begin_0 5 rfl rfl)
theorem dX2_begin_8 : decode cX2_begin 8 = .ok (.aload_n 0, 1) := dk_42 (dk_at dksX2_begin_0 8 rfl rfl)
theorem dX2_begin_9 : decode cX2_begin 9 = .ok (.aload_n 0, 1) := dk_42 (dk_at dksX2_begin_0 9 rfl rfl)
theorem dX2_begin_10 : decode cX2_begin 10 = .ok (.getfield 15, 3) := dk_180 0 15 (dk_at dksX2_begin_0 10 rfl rfl)
theorem dX2_begin_13 : decode cX2_begin 13 = .ok (.iload_n 2, 1) := dk_28 (dk_at dksX2_begin_0 13 rfl rfl)
theorem dX2_begin_14 : decode cX2_begin 14 = .ok (.iadd, 1) := dk_96 (dk_at dksX2_begin_0 14 rfl rfl)
theorem dX2_begin_15 : decode cX2_begin 15 = .ok (.putfield 19, 3) := dk_181 0 19 (dk_at dksX2_begin_0 15 rfl rfl)
theorem dX2_begin_18 : decode cX2_begin 18 = .ok (.aload_n 0, 1) := dk_42 (dk_at dksX2_begin_0 18 rfl rfl)
theorem dX2_begin_19 : decode cX2_begin 19 = .ok (.getfield 9, 3) := dk_180 0 9 (dk_at dksX2_begin_0 19 rfl rfl)
theorem dX2_begin_22 : decode cX2_begin 22 = .ok (.aload_n 0, 1) := dk_42 (dk_at dksX2_begin_0 22 rfl rfl)
theorem dX2_begin_23 : decode cX2_begin 23 = .ok (.getfield 15, 3) := dk_180 0 15 (dk_at dksX2_begin_1 0 rfl rfl)
theorem dX2_begin_26 : decode cX2_begin 26 = .ok (.aload_n 0, 1) := dk_42 (dk_at dksX2_begin_1 3 rfl rfl)
theorem dX2_begin_27 : decode cX2_begin 27 = .ok (.getfield 19, 3) := dk_180 0 19 (dk_at dksX2_begin_1 4 rfl rfl)
theorem dX2_begin_30 : decode cX2_begin 30 = .ok (.iconst 0, 1) := dk_3 (dk_at dksX2_begin_1 7 rfl rfl)
theorem dX2_begin_31 : decode cX2_begin 31 = .ok (.invokestatic 22, 3) := dk_184 0 22 (dk_at dksX2_begin_1 8 rfl rfl)
theorem dX2_begin_34 : decode cX2_begin 34 = .ok (.aload_n 0, 1) := dk_42 (dk_at dksX2_begin_1 11 rfl rfl)
theorem dX2_begin_35 : decode cX2_begin 35 = .ok (.getfield 9, 3) := dk_180 0 9 (dk_at dksX2_begin_1 12 rfl rfl)
theorem dX2_begin_38 : decode cX2_begin 38 = .ok (.aload_n 0, 1) := dk_42 (dk_at dksX2_begin_1 15 rfl rfl)
theorem dX2_begin_39 : decode cX2_begin 39 = .ok (.getfield 15, 3) := dk_180 0 15 (dk_at dksX2_begin_1 16 rfl rfl)
theorem dX2_begin_42 : decode cX2_begin 42 = .ok (.iconst 4, 1) := dk_7 (dk_at dksX2_begin_1 19 rfl rfl)
theorem dX2_begin_43 : decode cX2_begin 43 = .ok (.iadd, 1) := dk_96 (dk_at dksX2_begin_1 20 rfl rfl)
theorem dX2_begin_44 : decode cX2_begin 44 = .ok (.iload_n 2, 1) := dk_28 (dk_at dksX2_begin_1 21 rfl rfl)
theorem dX2_begin_45 : decode cX2_begin 45 = .ok (.invokestatic 28, 3) := dk_184 0 28 (dk_at dksX2_begin_2 0 rfl rfl)
theorem dX2_begin_48 : decode cX2_begin 48 = .ok (.aload_n 0, 1) := dk_42 (dk_at dksX2_begin_2 3 rfl rfl)
theorem dX2_begin_49 : decode cX2_begin 49 = .ok (.getfield 9, 3) := dk_180 0 9 (dk_at dksX2_begin_2 4 rfl rfl)
theorem dX2_begin_52 : decode cX2_begin 52 = .ok (.aload_n 0, 1) := dk_42 (dk_at dksX2_begin_2 7 rfl rfl)
theorem dX2_begin_53 : decode cX2_begin 53 = .ok (.getfield 15, 3) := dk_180 0 15 (dk_at dksX2_begin_2 8 rfl rfl)
theorem dX2_begin_56 : decode cX2_begin 56 = .ok (.bipush 16, 2) := dk_16 16 (dk_at dksX2_begin_2 11 rfl rfl)
theorem dX2_begin_58 : decode cX2_begin 58 = .ok (.iadd, 1) := dk_96 (dk_at dksX2_begin_2 13 rfl rfl)
theorem dX2_begin_59 : decode cX2_begin 59 = .ok (.iload_n 1, 1) := dk_27 (dk_at dksX2_begin_2 14 rfl rfl)
theorem dX2_begin_60 : decode cX2_begin 60 = .ok (.i2b, 1) := dk_145 (dk_at dksX2_begin_2 15 rfl rfl)
theorem dX2_begin_61 : decode cX2_begin 61 = .ok (.bastore, 1) := dk_84 (dk_at dksX2_begin_2 16 rfl rfl)
theorem dX2_begin_62 : decode cX2_begin 62 = .ok (.aload_n 0, 1) := dk_42 (dk_at dksX2_begin_2 17 rfl rfl)
theorem dX2_begin_63 : decode cX2_begin 63 = .ok (.getfield 9, 3) := dk_180 0 9 (dk_at dksX2_begin_2 18 rfl rfl)
theorem dX2_begin_66 : decode cX2_begin 66 = .ok (.aload_n 0, 1) := dk_42 (dk_at dksX2_begin_2 21 rfl rfl)
theorem dX2_begin_67 : decode cX2_begin 67 = .ok (.getfield 15, 3) := dk_180 0 15 (dk_at dksX2_begin_3 0 rfl rfl)
theorem dX2_begin_70 : decode cX2_begin 70 = .ok (.bipush 20, 2) := dk_16 20 (dk_at dksX2_begin_3 3 rfl rfl)
theorem dX2_begin_72 : decode cX2_begin 72 = .ok (.iadd, 1) := dk_96 (dk_at dksX2_begin_3 5 rfl rfl)
theorem dX2_begin_73 : decode cX2_begin 73 = .ok (.ldc 32, 2) := dk_18 32 (dk_at dksX2_begin_3 6 rfl rfl)
theorem dX2_begin_75 : decode cX2_begin 75 = .ok (.invokestatic 28, 3) := dk_184 0 28 (dk_at dksX2_begin_3 8 rfl rfl)
theorem dX2_begin_78 : decode cX2_begin 78 = .ok (.aload_n 0, 1) := dk_42 (dk_at dksX2_begin_3 11 rfl rfl)
theorem dX2_begin_79 : decode cX2_begin 79 = .ok (.areturn, 1) := dk_176 (dk_at dksX2_begin_3 12 rfl rfl)
abbrev cX2_put : ByteArray := prog_7_method_4_code
def yX2_put : MethodName := ⟨RX2, "put", "(II)LNandHouse$Row;"⟩
def dkwX2_put_0 : List UInt8 := [42, 180, 0, 9, 42, 180, 0, 15, 16, 24, 96, 27, 96, 28, 184, 0, 28, 42, 176]
abbrev dktX2_put_0 : List UInt8 := dkwX2_put_0 ++ []
theorem dksX2_put_0 : cX2_put.data.toList.drop 0 = dktX2_put_0 := by decide +kernel
theorem dX2_put_0 : decode cX2_put 0 = .ok (.aload_n 0, 1) := dk_42 (dk_at dksX2_put_0 0 rfl rfl)
theorem dX2_put_1 : decode cX2_put 1 = .ok (.getfield 9, 3) := dk_180 0 9 (dk_at dksX2_put_0 1 rfl rfl)
theorem dX2_put_4 : decode cX2_put 4 = .ok (.aload_n 0, 1) := dk_42 (dk_at dksX2_put_0 4 rfl rfl)
theorem dX2_put_5 : decode cX2_put 5 = .ok (.getfield 15, 3) := dk_180 0 15 (dk_at dksX2_put_0 5 rfl rfl)
theorem dX2_put_8 : decode cX2_put 8 = .ok (.bipush 24, 2) := dk_16 24 (dk_at dksX2_put_0 8 rfl rfl)
theorem dX2_put_10 : decode cX2_put 10 = .ok (.iadd, 1) := dk_96 (dk_at dksX2_put_0 10 rfl rfl)
theorem dX2_put_11 : decode cX2_put 11 = .ok (.iload_n 1, 1) := dk_27 (dk_at dksX2_put_0 11 rfl rfl)
theorem dX2_put_12 : decode cX2_put 12 = .ok (.iadd, 1) := dk_96 (dk_at dksX2_put_0 12 rfl rfl)
theorem dX2_put_13 : decode cX2_put 13 = .ok (.iload_n 2, 1) := dk_28 (dk_at dksX2_put_0 13 rfl rfl)
theorem dX2_put_14 : decode cX2_put 14 = .ok (.invokestatic 28, 3) := dk_184 0 28 (dk_at dksX2_put_0 14 rfl rfl)
theorem dX2_put_17 : decode cX2_put 17 = .ok (.aload_n 0, 1) := dk_42 (dk_at dksX2_put_0 17 rfl rfl)
theorem dX2_put_18 : decode cX2_put 18 = .ok (.areturn, 1) := dk_176 (dk_at dksX2_put_0 18 rfl rfl)
abbrev cX2_close : ByteArray := prog_7_method_8_code
def yX2_close : MethodName := ⟨RX2, "close", "(JZ)V"⟩
def dkwX2_close_2 : List UInt8 := [180, 0, 9, 42, 180, 0, 15, 7, 96, 42, 182, 0, 45, 7, 100, 184, 0, 49, 184, 0, 28, 177]
abbrev dktX2_close_2 : List UInt8 := dkwX2_close_2 ++ []
def dkwX2_close_1 : List UInt8 := [16, 17, 96, 29, 153, 0, 7, 4, 167, 0, 4, 3, 145, 84, 42, 180, 0, 9, 42, 180, 0, 15, 2, 42]
abbrev dktX2_close_1 : List UInt8 := dkwX2_close_1 ++ dktX2_close_2
def dkwX2_close_0 : List UInt8 := [42, 180, 0, 9, 42, 180, 0, 15, 16, 8, 96, 31, 184, 0, 33, 42, 180, 0, 9, 42, 180, 0, 15]
abbrev dktX2_close_0 : List UInt8 := dkwX2_close_0 ++ dktX2_close_1
theorem dksX2_close_0 : cX2_close.data.toList.drop 0 = dktX2_close_0 := by decide +kernel
theorem dksX2_close_1 : cX2_close.data.toList.drop 23 = dktX2_close_1 := dk_seg dksX2_close_0 23 rfl rfl
theorem dksX2_close_2 : cX2_close.data.toList.drop 47 = dktX2_close_2 := dk_seg dksX2_close_1 24 rfl rfl
theorem dX2_close_0 : decode cX2_close 0 = .ok (.aload_n 0, 1) := dk_42 (dk_at dksX2_close_0 0 rfl rfl)
theorem dX2_close_1 : decode cX2_close 1 = .ok (.getfield 9, 3) := dk_180 0 9 (dk_at dksX2_close_0 1 rfl rfl)
theorem dX2_close_4 : decode cX2_close 4 = .ok (.aload_n 0, 1) := dk_42 (dk_at dksX2_close_0 4 rfl rfl)
theorem dX2_close_5 : decode cX2_close 5 = .ok (.getfield 15, 3) := dk_180 0 15 (dk_at dksX2_close_0 5 rfl rfl)
theorem dX2_close_8 : decode cX2_close 8 = .ok (.bipush 8, 2) := dk_16 8 (dk_at dksX2_close_0 8 rfl rfl)
theorem dX2_close_10 : decode cX2_close 10 = .ok (.iadd, 1) := dk_96 (dk_at dksX2_close_0 10 rfl rfl)
theorem dX2_close_11 : decode cX2_close 11 = .ok (.lload_n 1, 1) := dk_31 (dk_at dksX2_close_0 11 rfl rfl)
theorem dX2_close_12 : decode cX2_close 12 = .ok (.invokestatic 33, 3) := dk_184 0 33 (dk_at dksX2_close_0 12 rfl rfl)
theorem dX2_close_15 : decode cX2_close 15 = .ok (.aload_n 0, 1) := dk_42 (dk_at dksX2_close_0 15 rfl rfl)
theorem dX2_close_16 : decode cX2_close 16 = .ok (.getfield 9, 3) := dk_180 0 9 (dk_at dksX2_close_0 16 rfl rfl)
theorem dX2_close_19 : decode cX2_close 19 = .ok (.aload_n 0, 1) := dk_42 (dk_at dksX2_close_0 19 rfl rfl)
theorem dX2_close_20 : decode cX2_close 20 = .ok (.getfield 15, 3) := dk_180 0 15 (dk_at dksX2_close_0 20 rfl rfl)
theorem dX2_close_23 : decode cX2_close 23 = .ok (.bipush 17, 2) := dk_16 17 (dk_at dksX2_close_1 0 rfl rfl)
theorem dX2_close_25 : decode cX2_close 25 = .ok (.iadd, 1) := dk_96 (dk_at dksX2_close_1 2 rfl rfl)
theorem dX2_close_26 : decode cX2_close 26 = .ok (.iload_n 3, 1) := dk_29 (dk_at dksX2_close_1 3 rfl rfl)
theorem dX2_close_27 : decode cX2_close 27 = .ok (.ifCond .eq 7, 3) := dk_153 0 7 (dk_at dksX2_close_1 4 rfl rfl)
theorem dX2_close_30 : decode cX2_close 30 = .ok (.iconst 1, 1) := dk_4 (dk_at dksX2_close_1 7 rfl rfl)
theorem dX2_close_31 : decode cX2_close 31 = .ok (.goto 4, 3) := dk_167 0 4 (dk_at dksX2_close_1 8 rfl rfl)
theorem dX2_close_34 : decode cX2_close 34 = .ok (.iconst 0, 1) := dk_3 (dk_at dksX2_close_1 11 rfl rfl)
theorem dX2_close_35 : decode cX2_close 35 = .ok (.i2b, 1) := dk_145 (dk_at dksX2_close_1 12 rfl rfl)
theorem dX2_close_36 : decode cX2_close 36 = .ok (.bastore, 1) := dk_84 (dk_at dksX2_close_1 13 rfl rfl)
theorem dX2_close_37 : decode cX2_close 37 = .ok (.aload_n 0, 1) := dk_42 (dk_at dksX2_close_1 14 rfl rfl)
theorem dX2_close_38 : decode cX2_close 38 = .ok (.getfield 9, 3) := dk_180 0 9 (dk_at dksX2_close_1 15 rfl rfl)
theorem dX2_close_41 : decode cX2_close 41 = .ok (.aload_n 0, 1) := dk_42 (dk_at dksX2_close_1 18 rfl rfl)
theorem dX2_close_42 : decode cX2_close 42 = .ok (.getfield 15, 3) := dk_180 0 15 (dk_at dksX2_close_1 19 rfl rfl)
theorem dX2_close_45 : decode cX2_close 45 = .ok (.iconst (-1), 1) := dk_2 (dk_at dksX2_close_1 22 rfl rfl)
theorem dX2_close_46 : decode cX2_close 46 = .ok (.aload_n 0, 1) := dk_42 (dk_at dksX2_close_1 23 rfl rfl)
theorem dX2_close_47 : decode cX2_close 47 = .ok (.getfield 9, 3) := dk_180 0 9 (dk_at dksX2_close_2 0 rfl rfl)
theorem dX2_close_50 : decode cX2_close 50 = .ok (.aload_n 0, 1) := dk_42 (dk_at dksX2_close_2 3 rfl rfl)
theorem dX2_close_51 : decode cX2_close 51 = .ok (.getfield 15, 3) := dk_180 0 15 (dk_at dksX2_close_2 4 rfl rfl)
theorem dX2_close_54 : decode cX2_close 54 = .ok (.iconst 4, 1) := dk_7 (dk_at dksX2_close_2 7 rfl rfl)
theorem dX2_close_55 : decode cX2_close 55 = .ok (.iadd, 1) := dk_96 (dk_at dksX2_close_2 8 rfl rfl)
theorem dX2_close_56 : decode cX2_close 56 = .ok (.aload_n 0, 1) := dk_42 (dk_at dksX2_close_2 9 rfl rfl)
theorem dX2_close_57 : decode cX2_close 57 = .ok (.invokevirtual 45, 3) := dk_182 0 45 (dk_at dksX2_close_2 10 rfl rfl)
theorem dX2_close_60 : decode cX2_close 60 = .ok (.iconst 4, 1) := dk_7 (dk_at dksX2_close_2 13 rfl rfl)
theorem dX2_close_61 : decode cX2_close 61 = .ok (.isub, 1) := dk_100 (dk_at dksX2_close_2 14 rfl rfl)
theorem dX2_close_62 : decode cX2_close 62 = .ok (.invokestatic 49, 3) := dk_184 0 49 (dk_at dksX2_close_2 15 rfl rfl)
theorem dX2_close_65 : decode cX2_close 65 = .ok (.invokestatic 28, 3) := dk_184 0 28 (dk_at dksX2_close_2 18 rfl rfl)
theorem dX2_close_68 : decode cX2_close 68 = .ok (.return_, 1) := dk_177 (dk_at dksX2_close_2 21 rfl rfl)
abbrev cX2_length : ByteArray := prog_7_method_9_code
def yX2_length : MethodName := ⟨RX2, "length", "()I"⟩
def dkwX2_length_0 : List UInt8 := [42, 180, 0, 9, 42, 180, 0, 15, 7, 96, 184, 0, 37, 172]
abbrev dktX2_length_0 : List UInt8 := dkwX2_length_0 ++ []
theorem dksX2_length_0 : cX2_length.data.toList.drop 0 = dktX2_length_0 := by decide +kernel
theorem dX2_length_0 : decode cX2_length 0 = .ok (.aload_n 0, 1) := dk_42 (dk_at dksX2_length_0 0 rfl rfl)
theorem dX2_length_1 : decode cX2_length 1 = .ok (.getfield 9, 3) := dk_180 0 9 (dk_at dksX2_length_0 1 rfl rfl)
theorem dX2_length_4 : decode cX2_length 4 = .ok (.aload_n 0, 1) := dk_42 (dk_at dksX2_length_0 4 rfl rfl)
theorem dX2_length_5 : decode cX2_length 5 = .ok (.getfield 15, 3) := dk_180 0 15 (dk_at dksX2_length_0 5 rfl rfl)
theorem dX2_length_8 : decode cX2_length 8 = .ok (.iconst 4, 1) := dk_7 (dk_at dksX2_length_0 8 rfl rfl)
theorem dX2_length_9 : decode cX2_length 9 = .ok (.iadd, 1) := dk_96 (dk_at dksX2_length_0 9 rfl rfl)
theorem dX2_length_10 : decode cX2_length 10 = .ok (.invokestatic 37, 3) := dk_184 0 37 (dk_at dksX2_length_0 10 rfl rfl)
theorem dX2_length_13 : decode cX2_length 13 = .ok (.ireturn, 1) := dk_172 (dk_at dksX2_length_0 13 rfl rfl)
abbrev cX2_putLongAt : ByteArray := prog_7_method_5_code
def yX2_putLongAt : MethodName := ⟨RX2, "putLongAt", "(IJ)LNandHouse$Row;"⟩
def dkwX2_putLongAt_0 : List UInt8 := [42, 180, 0, 9, 42, 180, 0, 15, 16, 24, 96, 27, 96, 32, 184, 0, 33, 42, 176]
abbrev dktX2_putLongAt_0 : List UInt8 := dkwX2_putLongAt_0 ++ []
theorem dksX2_putLongAt_0 : cX2_putLongAt.data.toList.drop 0 = dktX2_putLongAt_0 := by decide +kernel
theorem dX2_putLongAt_0 : decode cX2_putLongAt 0 = .ok (.aload_n 0, 1) := dk_42 (dk_at dksX2_putLongAt_0 0 rfl rfl)
theorem dX2_putLongAt_1 : decode cX2_putLongAt 1 = .ok (.getfield 9, 3) := dk_180 0 9 (dk_at dksX2_putLongAt_0 1 rfl rfl)
theorem dX2_putLongAt_4 : decode cX2_putLongAt 4 = .ok (.aload_n 0, 1) := dk_42 (dk_at dksX2_putLongAt_0 4 rfl rfl)
theorem dX2_putLongAt_5 : decode cX2_putLongAt 5 = .ok (.getfield 15, 3) := dk_180 0 15 (dk_at dksX2_putLongAt_0 5 rfl rfl)
theorem dX2_putLongAt_8 : decode cX2_putLongAt 8 = .ok (.bipush 24, 2) := dk_16 24 (dk_at dksX2_putLongAt_0 8 rfl rfl)
theorem dX2_putLongAt_10 : decode cX2_putLongAt 10 = .ok (.iadd, 1) := dk_96 (dk_at dksX2_putLongAt_0 10 rfl rfl)
theorem dX2_putLongAt_11 : decode cX2_putLongAt 11 = .ok (.iload_n 1, 1) := dk_27 (dk_at dksX2_putLongAt_0 11 rfl rfl)
theorem dX2_putLongAt_12 : decode cX2_putLongAt 12 = .ok (.iadd, 1) := dk_96 (dk_at dksX2_putLongAt_0 12 rfl rfl)
theorem dX2_putLongAt_13 : decode cX2_putLongAt 13 = .ok (.lload_n 2, 1) := dk_32 (dk_at dksX2_putLongAt_0 13 rfl rfl)
theorem dX2_putLongAt_14 : decode cX2_putLongAt 14 = .ok (.invokestatic 33, 3) := dk_184 0 33 (dk_at dksX2_putLongAt_0 14 rfl rfl)
theorem dX2_putLongAt_17 : decode cX2_putLongAt 17 = .ok (.aload_n 0, 1) := dk_42 (dk_at dksX2_putLongAt_0 17 rfl rfl)
theorem dX2_putLongAt_18 : decode cX2_putLongAt 18 = .ok (.areturn, 1) := dk_176 (dk_at dksX2_putLongAt_0 18 rfl rfl)
abbrev cX2_get : ByteArray := prog_7_method_6_code
def yX2_get : MethodName := ⟨RX2, "get", "(I)I"⟩
def dkwX2_get_0 : List UInt8 := [42, 180, 0, 9, 42, 180, 0, 15, 16, 24, 96, 27, 96, 184, 0, 37, 172]
abbrev dktX2_get_0 : List UInt8 := dkwX2_get_0 ++ []
theorem dksX2_get_0 : cX2_get.data.toList.drop 0 = dktX2_get_0 := by decide +kernel
theorem dX2_get_0 : decode cX2_get 0 = .ok (.aload_n 0, 1) := dk_42 (dk_at dksX2_get_0 0 rfl rfl)
theorem dX2_get_1 : decode cX2_get 1 = .ok (.getfield 9, 3) := dk_180 0 9 (dk_at dksX2_get_0 1 rfl rfl)
theorem dX2_get_4 : decode cX2_get 4 = .ok (.aload_n 0, 1) := dk_42 (dk_at dksX2_get_0 4 rfl rfl)
theorem dX2_get_5 : decode cX2_get 5 = .ok (.getfield 15, 3) := dk_180 0 15 (dk_at dksX2_get_0 5 rfl rfl)
theorem dX2_get_8 : decode cX2_get 8 = .ok (.bipush 24, 2) := dk_16 24 (dk_at dksX2_get_0 8 rfl rfl)
theorem dX2_get_10 : decode cX2_get 10 = .ok (.iadd, 1) := dk_96 (dk_at dksX2_get_0 10 rfl rfl)
theorem dX2_get_11 : decode cX2_get 11 = .ok (.iload_n 1, 1) := dk_27 (dk_at dksX2_get_0 11 rfl rfl)
theorem dX2_get_12 : decode cX2_get 12 = .ok (.iadd, 1) := dk_96 (dk_at dksX2_get_0 12 rfl rfl)
theorem dX2_get_13 : decode cX2_get 13 = .ok (.invokestatic 37, 3) := dk_184 0 37 (dk_at dksX2_get_0 13 rfl rfl)
theorem dX2_get_16 : decode cX2_get 16 = .ok (.ireturn, 1) := dk_172 (dk_at dksX2_get_0 16 rfl rfl)
abbrev cX2_getLongAt : ByteArray := prog_7_method_7_code
def yX2_getLongAt : MethodName := ⟨RX2, "getLongAt", "(I)J"⟩
def dkwX2_getLongAt_0 : List UInt8 := [42, 180, 0, 9, 42, 180, 0, 15, 16, 24, 96, 27, 96, 184, 0, 41, 173]
abbrev dktX2_getLongAt_0 : List UInt8 := dkwX2_getLongAt_0 ++ []
theorem dksX2_getLongAt_0 : cX2_getLongAt.data.toList.drop 0 = dktX2_getLongAt_0 := by decide +kernel
theorem dX2_getLongAt_0 : decode cX2_getLongAt 0 = .ok (.aload_n 0, 1) := dk_42 (dk_at dksX2_getLongAt_0 0 rfl rfl)
theorem dX2_getLongAt_1 : decode cX2_getLongAt 1 = .ok (.getfield 9, 3) := dk_180 0 9 (dk_at dksX2_getLongAt_0 1 rfl rfl)
theorem dX2_getLongAt_4 : decode cX2_getLongAt 4 = .ok (.aload_n 0, 1) := dk_42 (dk_at dksX2_getLongAt_0 4 rfl rfl)
theorem dX2_getLongAt_5 : decode cX2_getLongAt 5 = .ok (.getfield 15, 3) := dk_180 0 15 (dk_at dksX2_getLongAt_0 5 rfl rfl)
theorem dX2_getLongAt_8 : decode cX2_getLongAt 8 = .ok (.bipush 24, 2) := dk_16 24 (dk_at dksX2_getLongAt_0 8 rfl rfl)
theorem dX2_getLongAt_10 : decode cX2_getLongAt 10 = .ok (.iadd, 1) := dk_96 (dk_at dksX2_getLongAt_0 10 rfl rfl)
theorem dX2_getLongAt_11 : decode cX2_getLongAt 11 = .ok (.iload_n 1, 1) := dk_27 (dk_at dksX2_getLongAt_0 11 rfl rfl)
theorem dX2_getLongAt_12 : decode cX2_getLongAt 12 = .ok (.iadd, 1) := dk_96 (dk_at dksX2_getLongAt_0 12 rfl rfl)
theorem dX2_getLongAt_13 : decode cX2_getLongAt 13 = .ok (.invokestatic 41, 3) := dk_184 0 41 (dk_at dksX2_getLongAt_0 13 rfl rfl)
theorem dX2_getLongAt_16 : decode cX2_getLongAt 16 = .ok (.lreturn, 1) := dk_173 (dk_at dksX2_getLongAt_0 16 rfl rfl)
abbrev cX2_isWhole : ByteArray := prog_7_method_13_code
def yX2_isWhole : MethodName := ⟨RX2, "isWhole", "(I)Z"⟩
def dkwX2_isWhole_3 : List UInt8 := [160, 0, 7, 4, 167, 0, 4, 3, 172]
abbrev dktX2_isWhole_3 : List UInt8 := dkwX2_isWhole_3 ++ []
def dkwX2_isWhole_2 : List UInt8 := [180, 0, 15, 184, 0, 37, 2, 42, 180, 0, 9, 42, 180, 0, 15, 7, 96, 28, 7, 100, 184, 0, 49]
abbrev dktX2_isWhole_2 : List UInt8 := dkwX2_isWhole_2 ++ dktX2_isWhole_3
def dkwX2_isWhole_1 : List UInt8 := [180, 0, 9, 42, 180, 0, 15, 16, 20, 96, 184, 0, 37, 18, 32, 160, 0, 38, 42, 180, 0, 9, 42]
abbrev dktX2_isWhole_1 : List UInt8 := dkwX2_isWhole_1 ++ dktX2_isWhole_2
def dkwX2_isWhole_0 : List UInt8 := [42, 182, 0, 45, 61, 28, 16, 24, 161, 0, 69, 28, 16, 8, 112, 154, 0, 62, 28, 27, 163, 0, 57, 42]
abbrev dktX2_isWhole_0 : List UInt8 := dkwX2_isWhole_0 ++ dktX2_isWhole_1
theorem dksX2_isWhole_0 : cX2_isWhole.data.toList.drop 0 = dktX2_isWhole_0 := by decide +kernel
theorem dksX2_isWhole_1 : cX2_isWhole.data.toList.drop 24 = dktX2_isWhole_1 := dk_seg dksX2_isWhole_0 24 rfl rfl
theorem dksX2_isWhole_2 : cX2_isWhole.data.toList.drop 47 = dktX2_isWhole_2 := dk_seg dksX2_isWhole_1 23 rfl rfl
theorem dksX2_isWhole_3 : cX2_isWhole.data.toList.drop 70 = dktX2_isWhole_3 := dk_seg dksX2_isWhole_2 23 rfl rfl
theorem dX2_isWhole_0 : decode cX2_isWhole 0 = .ok (.aload_n 0, 1) := dk_42 (dk_at dksX2_isWhole_0 0 rfl rfl)
theorem dX2_isWhole_1 : decode cX2_isWhole 1 = .ok (.invokevirtual 45, 3) := dk_182 0 45 (dk_at dksX2_isWhole_0 1 rfl rfl)
theorem dX2_isWhole_4 : decode cX2_isWhole 4 = .ok (.istore_n 2, 1) := dk_61 (dk_at dksX2_isWhole_0 4 rfl rfl)
theorem dX2_isWhole_5 : decode cX2_isWhole 5 = .ok (.iload_n 2, 1) := dk_28 (dk_at dksX2_isWhole_0 5 rfl rfl)
theorem dX2_isWhole_6 : decode cX2_isWhole 6 = .ok (.bipush 24, 2) := dk_16 24 (dk_at dksX2_isWhole_0 6 rfl rfl)
theorem dX2_isWhole_8 : decode cX2_isWhole 8 = .ok (.if_icmp .lt 69, 3) := dk_161 0 69 (dk_at dksX2_isWhole_0 8 rfl rfl)
theorem dX2_isWhole_11 : decode cX2_isWhole 11 = .ok (.iload_n 2, 1) := dk_28 (dk_at dksX2_isWhole_0 11 rfl rfl)
theorem dX2_isWhole_12 : decode cX2_isWhole 12 = .ok (.bipush 8, 2) := dk_16 8 (dk_at dksX2_isWhole_0 12 rfl rfl)
theorem dX2_isWhole_14 : decode cX2_isWhole 14 = .ok (.irem, 1) := dk_112 (dk_at dksX2_isWhole_0 14 rfl rfl)
theorem dX2_isWhole_15 : decode cX2_isWhole 15 = .ok (.ifCond .ne 62, 3) := dk_154 0 62 (dk_at dksX2_isWhole_0 15 rfl rfl)
theorem dX2_isWhole_18 : decode cX2_isWhole 18 = .ok (.iload_n 2, 1) := dk_28 (dk_at dksX2_isWhole_0 18 rfl rfl)
theorem dX2_isWhole_19 : decode cX2_isWhole 19 = .ok (.iload_n 1, 1) := dk_27 (dk_at dksX2_isWhole_0 19 rfl rfl)
theorem dX2_isWhole_20 : decode cX2_isWhole 20 = .ok (.if_icmp .gt 57, 3) := dk_163 0 57 (dk_at dksX2_isWhole_0 20 rfl rfl)
theorem dX2_isWhole_23 : decode cX2_isWhole 23 = .ok (.aload_n 0, 1) := dk_42 (dk_at dksX2_isWhole_0 23 rfl rfl)
theorem dX2_isWhole_24 : decode cX2_isWhole 24 = .ok (.getfield 9, 3) := dk_180 0 9 (dk_at dksX2_isWhole_1 0 rfl rfl)
theorem dX2_isWhole_27 : decode cX2_isWhole 27 = .ok (.aload_n 0, 1) := dk_42 (dk_at dksX2_isWhole_1 3 rfl rfl)
theorem dX2_isWhole_28 : decode cX2_isWhole 28 = .ok (.getfield 15, 3) := dk_180 0 15 (dk_at dksX2_isWhole_1 4 rfl rfl)
theorem dX2_isWhole_31 : decode cX2_isWhole 31 = .ok (.bipush 20, 2) := dk_16 20 (dk_at dksX2_isWhole_1 7 rfl rfl)
theorem dX2_isWhole_33 : decode cX2_isWhole 33 = .ok (.iadd, 1) := dk_96 (dk_at dksX2_isWhole_1 9 rfl rfl)
theorem dX2_isWhole_34 : decode cX2_isWhole 34 = .ok (.invokestatic 37, 3) := dk_184 0 37 (dk_at dksX2_isWhole_1 10 rfl rfl)
theorem dX2_isWhole_37 : decode cX2_isWhole 37 = .ok (.ldc 32, 2) := dk_18 32 (dk_at dksX2_isWhole_1 13 rfl rfl)
theorem dX2_isWhole_39 : decode cX2_isWhole 39 = .ok (.if_icmp .ne 38, 3) := dk_160 0 38 (dk_at dksX2_isWhole_1 15 rfl rfl)
theorem dX2_isWhole_42 : decode cX2_isWhole 42 = .ok (.aload_n 0, 1) := dk_42 (dk_at dksX2_isWhole_1 18 rfl rfl)
theorem dX2_isWhole_43 : decode cX2_isWhole 43 = .ok (.getfield 9, 3) := dk_180 0 9 (dk_at dksX2_isWhole_1 19 rfl rfl)
theorem dX2_isWhole_46 : decode cX2_isWhole 46 = .ok (.aload_n 0, 1) := dk_42 (dk_at dksX2_isWhole_1 22 rfl rfl)
theorem dX2_isWhole_47 : decode cX2_isWhole 47 = .ok (.getfield 15, 3) := dk_180 0 15 (dk_at dksX2_isWhole_2 0 rfl rfl)
theorem dX2_isWhole_50 : decode cX2_isWhole 50 = .ok (.invokestatic 37, 3) := dk_184 0 37 (dk_at dksX2_isWhole_2 3 rfl rfl)
theorem dX2_isWhole_53 : decode cX2_isWhole 53 = .ok (.iconst (-1), 1) := dk_2 (dk_at dksX2_isWhole_2 6 rfl rfl)
theorem dX2_isWhole_54 : decode cX2_isWhole 54 = .ok (.aload_n 0, 1) := dk_42 (dk_at dksX2_isWhole_2 7 rfl rfl)
theorem dX2_isWhole_55 : decode cX2_isWhole 55 = .ok (.getfield 9, 3) := dk_180 0 9 (dk_at dksX2_isWhole_2 8 rfl rfl)
theorem dX2_isWhole_58 : decode cX2_isWhole 58 = .ok (.aload_n 0, 1) := dk_42 (dk_at dksX2_isWhole_2 11 rfl rfl)
theorem dX2_isWhole_59 : decode cX2_isWhole 59 = .ok (.getfield 15, 3) := dk_180 0 15 (dk_at dksX2_isWhole_2 12 rfl rfl)
theorem dX2_isWhole_62 : decode cX2_isWhole 62 = .ok (.iconst 4, 1) := dk_7 (dk_at dksX2_isWhole_2 15 rfl rfl)
theorem dX2_isWhole_63 : decode cX2_isWhole 63 = .ok (.iadd, 1) := dk_96 (dk_at dksX2_isWhole_2 16 rfl rfl)
theorem dX2_isWhole_64 : decode cX2_isWhole 64 = .ok (.iload_n 2, 1) := dk_28 (dk_at dksX2_isWhole_2 17 rfl rfl)
theorem dX2_isWhole_65 : decode cX2_isWhole 65 = .ok (.iconst 4, 1) := dk_7 (dk_at dksX2_isWhole_2 18 rfl rfl)
theorem dX2_isWhole_66 : decode cX2_isWhole 66 = .ok (.isub, 1) := dk_100 (dk_at dksX2_isWhole_2 19 rfl rfl)
theorem dX2_isWhole_67 : decode cX2_isWhole 67 = .ok (.invokestatic 49, 3) := dk_184 0 49 (dk_at dksX2_isWhole_2 20 rfl rfl)
theorem dX2_isWhole_70 : decode cX2_isWhole 70 = .ok (.if_icmp .ne 7, 3) := dk_160 0 7 (dk_at dksX2_isWhole_3 0 rfl rfl)
theorem dX2_isWhole_73 : decode cX2_isWhole 73 = .ok (.iconst 1, 1) := dk_4 (dk_at dksX2_isWhole_3 3 rfl rfl)
theorem dX2_isWhole_74 : decode cX2_isWhole 74 = .ok (.goto 4, 3) := dk_167 0 4 (dk_at dksX2_isWhole_3 4 rfl rfl)
theorem dX2_isWhole_77 : decode cX2_isWhole 77 = .ok (.iconst 0, 1) := dk_3 (dk_at dksX2_isWhole_3 7 rfl rfl)
theorem dX2_isWhole_78 : decode cX2_isWhole 78 = .ok (.ireturn, 1) := dk_172 (dk_at dksX2_isWhole_3 8 rfl rfl)
abbrev cX2_type : ByteArray := prog_7_method_11_code
def yX2_type : MethodName := ⟨RX2, "type", "()I"⟩
def dkwX2_type_0 : List UInt8 := [42, 180, 0, 9, 42, 180, 0, 15, 16, 16, 96, 51, 172]
abbrev dktX2_type_0 : List UInt8 := dkwX2_type_0 ++ []
theorem dksX2_type_0 : cX2_type.data.toList.drop 0 = dktX2_type_0 := by decide +kernel
theorem dX2_type_0 : decode cX2_type 0 = .ok (.aload_n 0, 1) := dk_42 (dk_at dksX2_type_0 0 rfl rfl)
theorem dX2_type_1 : decode cX2_type 1 = .ok (.getfield 9, 3) := dk_180 0 9 (dk_at dksX2_type_0 1 rfl rfl)
theorem dX2_type_4 : decode cX2_type 4 = .ok (.aload_n 0, 1) := dk_42 (dk_at dksX2_type_0 4 rfl rfl)
theorem dX2_type_5 : decode cX2_type 5 = .ok (.getfield 15, 3) := dk_180 0 15 (dk_at dksX2_type_0 5 rfl rfl)
theorem dX2_type_8 : decode cX2_type 8 = .ok (.bipush 16, 2) := dk_16 16 (dk_at dksX2_type_0 8 rfl rfl)
theorem dX2_type_10 : decode cX2_type 10 = .ok (.iadd, 1) := dk_96 (dk_at dksX2_type_0 10 rfl rfl)
theorem dX2_type_11 : decode cX2_type 11 = .ok (.baload, 1) := dk_51 (dk_at dksX2_type_0 11 rfl rfl)
theorem dX2_type_12 : decode cX2_type 12 = .ok (.ireturn, 1) := dk_172 (dk_at dksX2_type_0 12 rfl rfl)
abbrev cX2_isLast : ByteArray := prog_7_method_12_code
def yX2_isLast : MethodName := ⟨RX2, "isLast", "()Z"⟩
def dkwX2_isLast_0 : List UInt8 := [42, 180, 0, 9, 42, 180, 0, 15, 16, 17, 96, 51, 4, 160, 0, 7, 4, 167, 0, 4, 3, 172]
abbrev dktX2_isLast_0 : List UInt8 := dkwX2_isLast_0 ++ []
theorem dksX2_isLast_0 : cX2_isLast.data.toList.drop 0 = dktX2_isLast_0 := by decide +kernel
theorem dX2_isLast_0 : decode cX2_isLast 0 = .ok (.aload_n 0, 1) := dk_42 (dk_at dksX2_isLast_0 0 rfl rfl)
theorem dX2_isLast_1 : decode cX2_isLast 1 = .ok (.getfield 9, 3) := dk_180 0 9 (dk_at dksX2_isLast_0 1 rfl rfl)
theorem dX2_isLast_4 : decode cX2_isLast 4 = .ok (.aload_n 0, 1) := dk_42 (dk_at dksX2_isLast_0 4 rfl rfl)
theorem dX2_isLast_5 : decode cX2_isLast 5 = .ok (.getfield 15, 3) := dk_180 0 15 (dk_at dksX2_isLast_0 5 rfl rfl)
theorem dX2_isLast_8 : decode cX2_isLast 8 = .ok (.bipush 17, 2) := dk_16 17 (dk_at dksX2_isLast_0 8 rfl rfl)
theorem dX2_isLast_10 : decode cX2_isLast 10 = .ok (.iadd, 1) := dk_96 (dk_at dksX2_isLast_0 10 rfl rfl)
theorem dX2_isLast_11 : decode cX2_isLast 11 = .ok (.baload, 1) := dk_51 (dk_at dksX2_isLast_0 11 rfl rfl)
theorem dX2_isLast_12 : decode cX2_isLast 12 = .ok (.iconst 1, 1) := dk_4 (dk_at dksX2_isLast_0 12 rfl rfl)
theorem dX2_isLast_13 : decode cX2_isLast 13 = .ok (.if_icmp .ne 7, 3) := dk_160 0 7 (dk_at dksX2_isLast_0 13 rfl rfl)
theorem dX2_isLast_16 : decode cX2_isLast 16 = .ok (.iconst 1, 1) := dk_4 (dk_at dksX2_isLast_0 16 rfl rfl)
theorem dX2_isLast_17 : decode cX2_isLast 17 = .ok (.goto 4, 3) := dk_167 0 4 (dk_at dksX2_isLast_0 17 rfl rfl)
theorem dX2_isLast_20 : decode cX2_isLast 20 = .ok (.iconst 0, 1) := dk_3 (dk_at dksX2_isLast_0 20 rfl rfl)
theorem dX2_isLast_21 : decode cX2_isLast 21 = .ok (.ireturn, 1) := dk_172 (dk_at dksX2_isLast_0 21 rfl rfl)
abbrev cX2_serial : ByteArray := prog_7_method_10_code
def yX2_serial : MethodName := ⟨RX2, "serial", "()J"⟩
def dkwX2_serial_0 : List UInt8 := [42, 180, 0, 9, 42, 180, 0, 15, 16, 8, 96, 184, 0, 41, 173]
abbrev dktX2_serial_0 : List UInt8 := dkwX2_serial_0 ++ []
theorem dksX2_serial_0 : cX2_serial.data.toList.drop 0 = dktX2_serial_0 := by decide +kernel
theorem dX2_serial_0 : decode cX2_serial 0 = .ok (.aload_n 0, 1) := dk_42 (dk_at dksX2_serial_0 0 rfl rfl)
theorem dX2_serial_1 : decode cX2_serial 1 = .ok (.getfield 9, 3) := dk_180 0 9 (dk_at dksX2_serial_0 1 rfl rfl)
theorem dX2_serial_4 : decode cX2_serial 4 = .ok (.aload_n 0, 1) := dk_42 (dk_at dksX2_serial_0 4 rfl rfl)
theorem dX2_serial_5 : decode cX2_serial 5 = .ok (.getfield 15, 3) := dk_180 0 15 (dk_at dksX2_serial_0 5 rfl rfl)
theorem dX2_serial_8 : decode cX2_serial 8 = .ok (.bipush 8, 2) := dk_16 8 (dk_at dksX2_serial_0 8 rfl rfl)
theorem dX2_serial_10 : decode cX2_serial 10 = .ok (.iadd, 1) := dk_96 (dk_at dksX2_serial_0 10 rfl rfl)
theorem dX2_serial_11 : decode cX2_serial 11 = .ok (.invokestatic 41, 3) := dk_184 0 41 (dk_at dksX2_serial_0 11 rfl rfl)
theorem dX2_serial_14 : decode cX2_serial 14 = .ok (.lreturn, 1) := dk_173 (dk_at dksX2_serial_0 14 rfl rfl)
theorem q132 : (Jvm.Cond.initialized "NandHouse$Row") ∈ lw_all := lw_g (lw_at lw_m1 2 rfl) rfl
theorem q160 : (Jvm.Cond.instantiable "NandHouse$Row" (3 : Nat)) ∈ lw_all := lw_g (lw_at lw_m1 30 rfl) rfl
theorem q162 : (Jvm.Cond.instanceMethod ({ cls := "NandHouse$Row", name := "<init>", desc := "(I)V" } : Jvm.MethodName)) ∈ lw_all := lw_g (lw_at lw_m1 32 rfl) rfl
theorem q163 : (Jvm.Cond.code ({ cls := "NandHouse$Row", name := "<init>", desc := "(I)V" } : Jvm.MethodName) prog_7_method_1_code (2 : Nat) (Option.none : Option Jvm.ClassFile.FieldType)) ∈ lw_all := lw_g (lw_at lw_m1 33 rfl) rfl
theorem q164 : (Jvm.Cond.methodLink "NandHouse$Row" (3 : Nat) ({ cls := "java/lang/Object", name := "<init>", desc := "()V" } : Jvm.MethodName)) ∈ lw_all := lw_g (lw_at lw_m1 34 rfl) rfl
theorem q165 : (Jvm.Cond.fieldLink "NandHouse$Row" (9 : Nat) "NandHouse$Row" "bytes" "[B") ∈ lw_all := lw_g (lw_at lw_m1 35 rfl) rfl
theorem q168 : (Jvm.Cond.fieldLink "NandHouse$Row" (15 : Nat) "NandHouse$Row" "at" "I") ∈ lw_all := lw_g (lw_at lw_m1 38 rfl) rfl
theorem q171 : (Jvm.Cond.fieldLink "NandHouse$Row" (19 : Nat) "NandHouse$Row" "end" "I") ∈ lw_all := lw_g (lw_at lw_m1 41 rfl) rfl
theorem q174 : (Jvm.Cond.laysFinal "NandHouse$Row" "NandHouse$Row" "bytes" "[B") ∈ lw_all := lw_g (lw_at lw_m1 44 rfl) rfl
theorem q175 : (Jvm.Cond.soleField "NandHouse$Row" "bytes") ∈ lw_all := lw_g (lw_at lw_m1 45 rfl) rfl
theorem q176 : (Jvm.Cond.lays "NandHouse$Row" "NandHouse$Row" "at" "I") ∈ lw_all := lw_g (lw_at lw_m1 46 rfl) rfl
theorem q177 : (Jvm.Cond.soleField "NandHouse$Row" "at") ∈ lw_all := lw_g (lw_at lw_m1 47 rfl) rfl
theorem q178 : (Jvm.Cond.lays "NandHouse$Row" "NandHouse$Row" "end" "I") ∈ lw_all := lw_g (lw_at lw_m1 48 rfl) rfl
theorem q179 : (Jvm.Cond.soleField "NandHouse$Row" "end") ∈ lw_all := lw_g (lw_at lw_m1 49 rfl) rfl
theorem q180 : (Jvm.Cond.superclass "NandHouse$Row" "java/lang/Object") ∈ lw_all := lw_g (lw_at lw_m1 50 rfl) rfl
theorem q737 : (Jvm.Cond.instanceMethod ({ cls := "NandHouse$Row", name := "clear", desc := "()V" } : Jvm.MethodName)) ∈ lw_all := lw_g (lw_at lw_m3 127 rfl) rfl
theorem q738 : (Jvm.Cond.selects "NandHouse$Row" ({ cls := "NandHouse$Row", name := "clear", desc := "()V" } : Jvm.MethodName) ({ cls := "NandHouse$Row", name := "clear", desc := "()V" } : Jvm.MethodName)) ∈ lw_all := lw_g (lw_at lw_m3 128 rfl) rfl
theorem q739 : (Jvm.Cond.code ({ cls := "NandHouse$Row", name := "clear", desc := "()V" } : Jvm.MethodName) prog_7_method_2_code (1 : Nat) (Option.none : Option Jvm.ClassFile.FieldType)) ∈ lw_all := lw_g (lw_at lw_m3 129 rfl) rfl
theorem q741 : (Jvm.Cond.instanceMethod ({ cls := "NandHouse$Row", name := "begin", desc := "(II)LNandHouse$Row;" } : Jvm.MethodName)) ∈ lw_all := lw_g (lw_at lw_m3 131 rfl) rfl
theorem q742 : (Jvm.Cond.selects "NandHouse$Row" ({ cls := "NandHouse$Row", name := "begin", desc := "(II)LNandHouse$Row;" } : Jvm.MethodName) ({ cls := "NandHouse$Row", name := "begin", desc := "(II)LNandHouse$Row;" } : Jvm.MethodName)) ∈ lw_all := lw_g (lw_at lw_m3 132 rfl) rfl
theorem q743 : (Jvm.Cond.code ({ cls := "NandHouse$Row", name := "begin", desc := "(II)LNandHouse$Row;" } : Jvm.MethodName) prog_7_method_3_code (3 : Nat) (Option.some (Jvm.ClassFile.FieldType.object "NandHouse$Row"))) ∈ lw_all := lw_g (lw_at lw_m3 133 rfl) rfl
theorem q744 : (Jvm.Cond.methodLink "NandHouse$Row" (22 : Nat) ({ cls := "java/util/Arrays", name := "fill", desc := "([BIIB)V" } : Jvm.MethodName)) ∈ lw_all := lw_g (lw_at lw_m3 134 rfl) rfl
theorem q745 : (Jvm.Cond.methodLinkNest "NandHouse$Row" (28 : Nat) ({ cls := "NandHouse", name := "putInt", desc := "([BII)V" } : Jvm.MethodName) "NandHouse") ∈ lw_tbl := lw_at lw_m3 135 rfl
theorem q746 : (Jvm.Cond.constant "NandHouse$Row" (32 : Nat) (1414677829 : Int32)) ∈ lw_all := lw_g (lw_at lw_m3 136 rfl) rfl
theorem q748 : (Jvm.Cond.instanceMethod ({ cls := "NandHouse$Row", name := "put", desc := "(II)LNandHouse$Row;" } : Jvm.MethodName)) ∈ lw_all := lw_g (lw_at lw_m3 138 rfl) rfl
theorem q749 : (Jvm.Cond.selects "NandHouse$Row" ({ cls := "NandHouse$Row", name := "put", desc := "(II)LNandHouse$Row;" } : Jvm.MethodName) ({ cls := "NandHouse$Row", name := "put", desc := "(II)LNandHouse$Row;" } : Jvm.MethodName)) ∈ lw_all := lw_g (lw_at lw_m3 139 rfl) rfl
theorem q750 : (Jvm.Cond.code ({ cls := "NandHouse$Row", name := "put", desc := "(II)LNandHouse$Row;" } : Jvm.MethodName) prog_7_method_4_code (3 : Nat) (Option.some (Jvm.ClassFile.FieldType.object "NandHouse$Row"))) ∈ lw_all := lw_g (lw_at lw_m3 140 rfl) rfl
theorem q756 : (Jvm.Cond.instanceMethod ({ cls := "NandHouse$Row", name := "close", desc := "(JZ)V" } : Jvm.MethodName)) ∈ lw_all := lw_g (lw_at lw_m3 146 rfl) rfl
theorem q757 : (Jvm.Cond.selects "NandHouse$Row" ({ cls := "NandHouse$Row", name := "close", desc := "(JZ)V" } : Jvm.MethodName) ({ cls := "NandHouse$Row", name := "close", desc := "(JZ)V" } : Jvm.MethodName)) ∈ lw_all := lw_g (lw_at lw_m3 147 rfl) rfl
theorem q758 : (Jvm.Cond.code ({ cls := "NandHouse$Row", name := "close", desc := "(JZ)V" } : Jvm.MethodName) prog_7_method_8_code (4 : Nat) (Option.none : Option Jvm.ClassFile.FieldType)) ∈ lw_all := lw_g (lw_at lw_m3 148 rfl) rfl
theorem q759 : (Jvm.Cond.methodLinkNest "NandHouse$Row" (33 : Nat) ({ cls := "NandHouse", name := "putLong", desc := "([BIJ)V" } : Jvm.MethodName) "NandHouse") ∈ lw_tbl := lw_at lw_m3 149 rfl
theorem q763 : (Jvm.Cond.methodLink "NandHouse$Row" (45 : Nat) ({ cls := "NandHouse$Row", name := "length", desc := "()I" } : Jvm.MethodName)) ∈ lw_all := lw_g (lw_at lw_m3 153 rfl) rfl
theorem q764 : (Jvm.Cond.instanceMethod ({ cls := "NandHouse$Row", name := "length", desc := "()I" } : Jvm.MethodName)) ∈ lw_all := lw_g (lw_at lw_m3 154 rfl) rfl
theorem q765 : (Jvm.Cond.selects "NandHouse$Row" ({ cls := "NandHouse$Row", name := "length", desc := "()I" } : Jvm.MethodName) ({ cls := "NandHouse$Row", name := "length", desc := "()I" } : Jvm.MethodName)) ∈ lw_all := lw_g (lw_at lw_m3 155 rfl) rfl
theorem q766 : (Jvm.Cond.code ({ cls := "NandHouse$Row", name := "length", desc := "()I" } : Jvm.MethodName) prog_7_method_9_code (1 : Nat) (Option.some Jvm.ClassFile.FieldType.int)) ∈ lw_all := lw_g (lw_at lw_m3 156 rfl) rfl
theorem q767 : (Jvm.Cond.methodLinkNest "NandHouse$Row" (37 : Nat) ({ cls := "NandHouse", name := "getInt", desc := "([BI)I" } : Jvm.MethodName) "NandHouse") ∈ lw_tbl := lw_at lw_m3 157 rfl
theorem q770 : (Jvm.Cond.methodLinkNest "NandHouse$Row" (49 : Nat) ({ cls := "NandHouse", name := "check", desc := "(I[BII)I" } : Jvm.MethodName) "NandHouse") ∈ lw_tbl := lw_at lw_m3 160 rfl
theorem q980 : (Jvm.Cond.instanceMethod ({ cls := "NandHouse$Row", name := "putLongAt", desc := "(IJ)LNandHouse$Row;" } : Jvm.MethodName)) ∈ lw_all := lw_g (lw_at lw_m4 130 rfl) rfl
theorem q981 : (Jvm.Cond.selects "NandHouse$Row" ({ cls := "NandHouse$Row", name := "putLongAt", desc := "(IJ)LNandHouse$Row;" } : Jvm.MethodName) ({ cls := "NandHouse$Row", name := "putLongAt", desc := "(IJ)LNandHouse$Row;" } : Jvm.MethodName)) ∈ lw_all := lw_g (lw_at lw_m4 131 rfl) rfl
theorem q982 : (Jvm.Cond.code ({ cls := "NandHouse$Row", name := "putLongAt", desc := "(IJ)LNandHouse$Row;" } : Jvm.MethodName) prog_7_method_5_code (4 : Nat) (Option.some (Jvm.ClassFile.FieldType.object "NandHouse$Row"))) ∈ lw_all := lw_g (lw_at lw_m4 132 rfl) rfl
theorem q1207 : (Jvm.Cond.instanceMethod ({ cls := "NandHouse$Row", name := "get", desc := "(I)I" } : Jvm.MethodName)) ∈ lw_all := lw_g (lw_at lw_m5 117 rfl) rfl
theorem q1208 : (Jvm.Cond.selects "NandHouse$Row" ({ cls := "NandHouse$Row", name := "get", desc := "(I)I" } : Jvm.MethodName) ({ cls := "NandHouse$Row", name := "get", desc := "(I)I" } : Jvm.MethodName)) ∈ lw_all := lw_g (lw_at lw_m5 118 rfl) rfl
theorem q1209 : (Jvm.Cond.code ({ cls := "NandHouse$Row", name := "get", desc := "(I)I" } : Jvm.MethodName) prog_7_method_6_code (2 : Nat) (Option.some Jvm.ClassFile.FieldType.int)) ∈ lw_all := lw_g (lw_at lw_m5 119 rfl) rfl
theorem q1219 : (Jvm.Cond.instanceMethod ({ cls := "NandHouse$Row", name := "getLongAt", desc := "(I)J" } : Jvm.MethodName)) ∈ lw_all := lw_g (lw_at lw_m5 129 rfl) rfl
theorem q1220 : (Jvm.Cond.selects "NandHouse$Row" ({ cls := "NandHouse$Row", name := "getLongAt", desc := "(I)J" } : Jvm.MethodName) ({ cls := "NandHouse$Row", name := "getLongAt", desc := "(I)J" } : Jvm.MethodName)) ∈ lw_all := lw_g (lw_at lw_m5 130 rfl) rfl
theorem q1221 : (Jvm.Cond.code ({ cls := "NandHouse$Row", name := "getLongAt", desc := "(I)J" } : Jvm.MethodName) prog_7_method_7_code (2 : Nat) (Option.some Jvm.ClassFile.FieldType.long)) ∈ lw_all := lw_g (lw_at lw_m5 131 rfl) rfl
theorem q1222 : (Jvm.Cond.methodLinkNest "NandHouse$Row" (41 : Nat) ({ cls := "NandHouse", name := "getLong", desc := "([BI)J" } : Jvm.MethodName) "NandHouse") ∈ lw_tbl := lw_at lw_m5 132 rfl
theorem q1296 : (Jvm.Cond.instanceMethod ({ cls := "NandHouse$Row", name := "isWhole", desc := "(I)Z" } : Jvm.MethodName)) ∈ lw_all := lw_g (lw_at lw_m5 206 rfl) rfl
theorem q1297 : (Jvm.Cond.selects "NandHouse$Row" ({ cls := "NandHouse$Row", name := "isWhole", desc := "(I)Z" } : Jvm.MethodName) ({ cls := "NandHouse$Row", name := "isWhole", desc := "(I)Z" } : Jvm.MethodName)) ∈ lw_all := lw_g (lw_at lw_m5 207 rfl) rfl
theorem q1298 : (Jvm.Cond.code ({ cls := "NandHouse$Row", name := "isWhole", desc := "(I)Z" } : Jvm.MethodName) prog_7_method_13_code (3 : Nat) (Option.some Jvm.ClassFile.FieldType.boolean)) ∈ lw_all := lw_g (lw_at lw_m5 208 rfl) rfl
theorem q1303 : (Jvm.Cond.instanceMethod ({ cls := "NandHouse$Row", name := "type", desc := "()I" } : Jvm.MethodName)) ∈ lw_all := lw_g (lw_at lw_m5 213 rfl) rfl
theorem q1304 : (Jvm.Cond.selects "NandHouse$Row" ({ cls := "NandHouse$Row", name := "type", desc := "()I" } : Jvm.MethodName) ({ cls := "NandHouse$Row", name := "type", desc := "()I" } : Jvm.MethodName)) ∈ lw_all := lw_g (lw_at lw_m5 214 rfl) rfl
theorem q1305 : (Jvm.Cond.code ({ cls := "NandHouse$Row", name := "type", desc := "()I" } : Jvm.MethodName) prog_7_method_11_code (1 : Nat) (Option.some Jvm.ClassFile.FieldType.int)) ∈ lw_all := lw_g (lw_at lw_m5 215 rfl) rfl
theorem q1342 : (Jvm.Cond.instanceMethod ({ cls := "NandHouse$Row", name := "isLast", desc := "()Z" } : Jvm.MethodName)) ∈ lw_all := lw_g (lw_at lw_m6 12 rfl) rfl
theorem q1343 : (Jvm.Cond.selects "NandHouse$Row" ({ cls := "NandHouse$Row", name := "isLast", desc := "()Z" } : Jvm.MethodName) ({ cls := "NandHouse$Row", name := "isLast", desc := "()Z" } : Jvm.MethodName)) ∈ lw_all := lw_g (lw_at lw_m6 13 rfl) rfl
theorem q1344 : (Jvm.Cond.code ({ cls := "NandHouse$Row", name := "isLast", desc := "()Z" } : Jvm.MethodName) prog_7_method_12_code (1 : Nat) (Option.some Jvm.ClassFile.FieldType.boolean)) ∈ lw_all := lw_g (lw_at lw_m6 14 rfl) rfl
theorem q1692 : (Jvm.Cond.instanceMethod ({ cls := "NandHouse$Row", name := "serial", desc := "()J" } : Jvm.MethodName)) ∈ lw_all := lw_g (lw_at lw_m7 122 rfl) rfl
theorem q1693 : (Jvm.Cond.selects "NandHouse$Row" ({ cls := "NandHouse$Row", name := "serial", desc := "()J" } : Jvm.MethodName) ({ cls := "NandHouse$Row", name := "serial", desc := "()J" } : Jvm.MethodName)) ∈ lw_all := lw_g (lw_at lw_m7 123 rfl) rfl
theorem q1694 : (Jvm.Cond.code ({ cls := "NandHouse$Row", name := "serial", desc := "()J" } : Jvm.MethodName) prog_7_method_10_code (1 : Nat) (Option.some Jvm.ClassFile.FieldType.long)) ∈ lw_all := lw_g (lw_at lw_m7 124 rfl) rfl
theorem in_X2 : ∀ w ∈ wsX20, w ∈ lw_all := lw_in wsX20 [174, 176, 178] (by decide +kernel) (by decide +kernel)
/-! NandHouse$Inode -/
set_option maxRecDepth 100000
def RX3 : String := "NandHouse$Inode"
def TX3 : u_T := fun k => match k with
  | 0 => ("NandHouse$Inode", "number", "I", false)
  | 1 => ("NandHouse$Inode", "kind", "I", false)
  | 2 => ("NandHouse$Inode", "links", "I", false)
  | 3 => ("NandHouse$Inode", "size", "I", false)
  | 4 => ("NandHouse$Inode", "entries", "I", false)
  | _ => ("NandHouse$Inode", "attributes", "I", false)
def tyX3 : Nat → FieldType := fun k => match k with
  | 0 => .int
  | 1 => .int
  | 2 => .int
  | 3 => .int
  | 4 => .int
  | _ => .int
abbrev wsX30 : List Cond := u_ws RX3 TX3 6
theorem nmX3 : ∀ a, a < 6 → ∀ b, b < 6 → a ≠ b → (TX3 a).2.1 ≠ (TX3 b).2.1 := by decide +kernel
theorem tyX3_ok : ∀ k, k < 6 → parseFieldDescriptor (TX3 k).2.2.1 = some (tyX3 k) := by decide +kernel
abbrev cX3_init : ByteArray := prog_5_method_1_code
def yX3_init : MethodName := ⟨RX3, "<init>", "()V"⟩
theorem dX3_init_0 : decode cX3_init 0 = .ok (.aload_n 0, 1) := by decide +kernel
theorem dX3_init_1 : decode cX3_init 1 = .ok (.invokespecial 1, 3) := by decide +kernel
theorem dX3_init_4 : decode cX3_init 4 = .ok (.return_, 1) := by decide +kernel
theorem q133 : (Jvm.Cond.initialized "NandHouse$Inode") ∈ lw_all := lw_g (lw_at lw_m1 3 rfl) rfl
theorem q184 : (Jvm.Cond.instantiable "NandHouse$Inode" (6 : Nat)) ∈ lw_all := lw_g (lw_at lw_m1 54 rfl) rfl
theorem q186 : (Jvm.Cond.instanceMethod ({ cls := "NandHouse$Inode", name := "<init>", desc := "()V" } : Jvm.MethodName)) ∈ lw_all := lw_g (lw_at lw_m1 56 rfl) rfl
theorem q187 : (Jvm.Cond.code ({ cls := "NandHouse$Inode", name := "<init>", desc := "()V" } : Jvm.MethodName) prog_5_method_1_code (1 : Nat) (Option.none : Option Jvm.ClassFile.FieldType)) ∈ lw_all := lw_g (lw_at lw_m1 57 rfl) rfl
theorem q188 : (Jvm.Cond.methodLink "NandHouse$Inode" (1 : Nat) ({ cls := "java/lang/Object", name := "<init>", desc := "()V" } : Jvm.MethodName)) ∈ lw_all := lw_g (lw_at lw_m1 58 rfl) rfl
theorem q195 : (Jvm.Cond.lays "NandHouse$Inode" "NandHouse$Inode" "number" "I") ∈ lw_all := lw_g (lw_at lw_m1 65 rfl) rfl
theorem q196 : (Jvm.Cond.soleField "NandHouse$Inode" "number") ∈ lw_all := lw_g (lw_at lw_m1 66 rfl) rfl
theorem q197 : (Jvm.Cond.lays "NandHouse$Inode" "NandHouse$Inode" "kind" "I") ∈ lw_all := lw_g (lw_at lw_m1 67 rfl) rfl
theorem q198 : (Jvm.Cond.soleField "NandHouse$Inode" "kind") ∈ lw_all := lw_g (lw_at lw_m1 68 rfl) rfl
theorem q199 : (Jvm.Cond.lays "NandHouse$Inode" "NandHouse$Inode" "links" "I") ∈ lw_all := lw_g (lw_at lw_m1 69 rfl) rfl
theorem q200 : (Jvm.Cond.soleField "NandHouse$Inode" "links") ∈ lw_all := lw_g (lw_at lw_m1 70 rfl) rfl
theorem q201 : (Jvm.Cond.lays "NandHouse$Inode" "NandHouse$Inode" "size" "I") ∈ lw_all := lw_g (lw_at lw_m1 71 rfl) rfl
theorem q202 : (Jvm.Cond.soleField "NandHouse$Inode" "size") ∈ lw_all := lw_g (lw_at lw_m1 72 rfl) rfl
theorem q203 : (Jvm.Cond.lays "NandHouse$Inode" "NandHouse$Inode" "entries" "I") ∈ lw_all := lw_g (lw_at lw_m1 73 rfl) rfl
theorem q204 : (Jvm.Cond.soleField "NandHouse$Inode" "entries") ∈ lw_all := lw_g (lw_at lw_m1 74 rfl) rfl
theorem q205 : (Jvm.Cond.lays "NandHouse$Inode" "NandHouse$Inode" "attributes" "I") ∈ lw_all := lw_g (lw_at lw_m1 75 rfl) rfl
theorem q206 : (Jvm.Cond.soleField "NandHouse$Inode" "attributes") ∈ lw_all := lw_g (lw_at lw_m1 76 rfl) rfl
theorem q207 : (Jvm.Cond.superclass "NandHouse$Inode" "java/lang/Object") ∈ lw_all := lw_g (lw_at lw_m1 77 rfl) rfl
theorem in_X3 : ∀ w ∈ wsX30, w ∈ lw_all := lw_in wsX30 [195, 197, 199, 201, 203, 205] (by decide +kernel) (by decide +kernel)
/-! NandHouse$Space -/
set_option maxRecDepth 100000
def RX7 : String := "NandHouse$Space"
def TX7 : u_T := fun k => match k with
  | 0 => ("NandHouse$Space", "blocks", "LNandHouse$Blocks;", true)
  | 1 => ("NandHouse$Space", "first", "I", true)
  | 2 => ("NandHouse$Space", "size", "I", true)
  | 3 => ("NandHouse$Space", "use", "[I", true)
  | 4 => ("NandHouse$Space", "live", "[I", true)
  | _ => ("NandHouse$Space", "ofIndex", "[Z", true)
def tyX7 : Nat → FieldType := fun k => match k with
  | 0 => .object "NandHouse$Blocks"
  | 1 => .int
  | 2 => .int
  | 3 => .array .int
  | 4 => .array .int
  | _ => .array .boolean
abbrev wsX70 : List Cond := u_ws RX7 TX7 6
theorem nmX7 : ∀ a, a < 6 → ∀ b, b < 6 → a ≠ b → (TX7 a).2.1 ≠ (TX7 b).2.1 := by decide +kernel
theorem tyX7_ok : ∀ k, k < 6 → parseFieldDescriptor (TX7 k).2.2.1 = some (tyX7 k) := by decide +kernel
abbrev cX7_init : ByteArray := prog_8_method_1_code
def yX7_init : MethodName := ⟨RX7, "<init>", "(LNandHouse$Blocks;I)V"⟩
def dkwX7_init_2 : List UInt8 := [43, 180, 0, 28, 188, 4, 181, 0, 38, 177]
abbrev dktX7_init_2 : List UInt8 := dkwX7_init_2 ++ []
def dkwX7_init_1 : List UInt8 := [181, 0, 25, 42, 43, 180, 0, 28, 188, 10, 181, 0, 31, 42, 43, 180, 0, 28, 188, 10, 181, 0, 35, 42]
abbrev dktX7_init_1 : List UInt8 := dkwX7_init_1 ++ dktX7_init_2
def dkwX7_init_0 : List UInt8 := [42, 183, 0, 3, 42, 43, 181, 0, 9, 42, 28, 181, 0, 15, 42, 43, 182, 0, 19, 17, 0, 128, 104]
abbrev dktX7_init_0 : List UInt8 := dkwX7_init_0 ++ dktX7_init_1
theorem dksX7_init_0 : cX7_init.data.toList.drop 0 = dktX7_init_0 := by decide +kernel
theorem dksX7_init_1 : cX7_init.data.toList.drop 23 = dktX7_init_1 := dk_seg dksX7_init_0 23 rfl rfl
theorem dksX7_init_2 : cX7_init.data.toList.drop 47 = dktX7_init_2 := dk_seg dksX7_init_1 24 rfl rfl
theorem dX7_init_0 : decode cX7_init 0 = .ok (.aload_n 0, 1) := dk_42 (dk_at dksX7_init_0 0 rfl rfl)
theorem dX7_init_1 : decode cX7_init 1 = .ok (.invokespecial 3, 3) := dk_183 0 3 (dk_at dksX7_init_0 1 rfl rfl)
theorem dX7_init_4 : decode cX7_init 4 = .ok (.aload_n 0, 1) := dk_42 (dk_at dksX7_init_0 4 rfl rfl)
theorem dX7_init_5 : decode cX7_init 5 = .ok (.aload_n 1, 1) := dk_43 (dk_at dksX7_init_0 5 rfl rfl)
theorem dX7_init_6 : decode cX7_init 6 = .ok (.putfield 9, 3) := dk_181 0 9 (dk_at dksX7_init_0 6 rfl rfl)
theorem dX7_init_9 : decode cX7_init 9 = .ok (.aload_n 0, 1) := dk_42 (dk_at dksX7_init_0 9 rfl rfl)
theorem dX7_init_10 : decode cX7_init 10 = .ok (.iload_n 2, 1) := dk_28 (dk_at dksX7_init_0 10 rfl rfl)
theorem dX7_init_11 : decode cX7_init 11 = .ok (.putfield 15, 3) := dk_181 0 15 (dk_at dksX7_init_0 11 rfl rfl)
theorem dX7_init_14 : decode cX7_init 14 = .ok (.aload_n 0, 1) := dk_42 (dk_at dksX7_init_0 14 rfl rfl)
theorem dX7_init_15 : decode cX7_init 15 = .ok (.aload_n 1, 1) := dk_43 (dk_at dksX7_init_0 15 rfl rfl)
theorem dX7_init_16 : decode cX7_init 16 = .ok (.invokevirtual 19, 3) := dk_182 0 19 (dk_at dksX7_init_0 16 rfl rfl)
theorem dX7_init_19 : decode cX7_init 19 = .ok (.sipush 128, 3) := dk_17 0 128 (dk_at dksX7_init_0 19 rfl rfl)
theorem dX7_init_22 : decode cX7_init 22 = .ok (.imul, 1) := dk_104 (dk_at dksX7_init_0 22 rfl rfl)
theorem dX7_init_23 : decode cX7_init 23 = .ok (.putfield 25, 3) := dk_181 0 25 (dk_at dksX7_init_1 0 rfl rfl)
theorem dX7_init_26 : decode cX7_init 26 = .ok (.aload_n 0, 1) := dk_42 (dk_at dksX7_init_1 3 rfl rfl)
theorem dX7_init_27 : decode cX7_init 27 = .ok (.aload_n 1, 1) := dk_43 (dk_at dksX7_init_1 4 rfl rfl)
theorem dX7_init_28 : decode cX7_init 28 = .ok (.getfield 28, 3) := dk_180 0 28 (dk_at dksX7_init_1 5 rfl rfl)
theorem dX7_init_31 : decode cX7_init 31 = .ok (.newarray .int, 2) := dk_188_10 (dk_at dksX7_init_1 8 rfl rfl)
theorem dX7_init_33 : decode cX7_init 33 = .ok (.putfield 31, 3) := dk_181 0 31 (dk_at dksX7_init_1 10 rfl rfl)
theorem dX7_init_36 : decode cX7_init 36 = .ok (.aload_n 0, 1) := dk_42 (dk_at dksX7_init_1 13 rfl rfl)
theorem dX7_init_37 : decode cX7_init 37 = .ok (.aload_n 1, 1) := dk_43 (dk_at dksX7_init_1 14 rfl rfl)
theorem dX7_init_38 : decode cX7_init 38 = .ok (.getfield 28, 3) := dk_180 0 28 (dk_at dksX7_init_1 15 rfl rfl)
theorem dX7_init_41 : decode cX7_init 41 = .ok (.newarray .int, 2) := dk_188_10 (dk_at dksX7_init_1 18 rfl rfl)
theorem dX7_init_43 : decode cX7_init 43 = .ok (.putfield 35, 3) := dk_181 0 35 (dk_at dksX7_init_1 20 rfl rfl)
theorem dX7_init_46 : decode cX7_init 46 = .ok (.aload_n 0, 1) := dk_42 (dk_at dksX7_init_1 23 rfl rfl)
theorem dX7_init_47 : decode cX7_init 47 = .ok (.aload_n 1, 1) := dk_43 (dk_at dksX7_init_2 0 rfl rfl)
theorem dX7_init_48 : decode cX7_init 48 = .ok (.getfield 28, 3) := dk_180 0 28 (dk_at dksX7_init_2 1 rfl rfl)
theorem dX7_init_51 : decode cX7_init 51 = .ok (.newarray .boolean, 2) := dk_188_4 (dk_at dksX7_init_2 4 rfl rfl)
theorem dX7_init_53 : decode cX7_init 53 = .ok (.putfield 38, 3) := dk_181 0 38 (dk_at dksX7_init_2 6 rfl rfl)
theorem dX7_init_56 : decode cX7_init 56 = .ok (.return_, 1) := dk_177 (dk_at dksX7_init_2 9 rfl rfl)
abbrev cX7_clear : ByteArray := prog_8_method_2_code
def yX7_clear : MethodName := ⟨RX7, "clear", "()V"⟩
def dkwX7_clear_1 : List UInt8 := [177]
abbrev dktX7_clear_1 : List UInt8 := dkwX7_clear_1 ++ []
def dkwX7_clear_0 : List UInt8 := [42, 180, 0, 31, 3, 184, 0, 42, 42, 180, 0, 35, 3, 184, 0, 42, 42, 180, 0, 38, 3, 184, 0, 48]
abbrev dktX7_clear_0 : List UInt8 := dkwX7_clear_0 ++ dktX7_clear_1
theorem dksX7_clear_0 : cX7_clear.data.toList.drop 0 = dktX7_clear_0 := by decide +kernel
theorem dksX7_clear_1 : cX7_clear.data.toList.drop 24 = dktX7_clear_1 := dk_seg dksX7_clear_0 24 rfl rfl
theorem dX7_clear_0 : decode cX7_clear 0 = .ok (.aload_n 0, 1) := dk_42 (dk_at dksX7_clear_0 0 rfl rfl)
theorem dX7_clear_1 : decode cX7_clear 1 = .ok (.getfield 31, 3) := dk_180 0 31 (dk_at dksX7_clear_0 1 rfl rfl)
theorem dX7_clear_4 : decode cX7_clear 4 = .ok (.iconst 0, 1) := dk_3 (dk_at dksX7_clear_0 4 rfl rfl)
theorem dX7_clear_5 : decode cX7_clear 5 = .ok (.invokestatic 42, 3) := dk_184 0 42 (dk_at dksX7_clear_0 5 rfl rfl)
theorem dX7_clear_8 : decode cX7_clear 8 = .ok (.aload_n 0, 1) := dk_42 (dk_at dksX7_clear_0 8 rfl rfl)
theorem dX7_clear_9 : decode cX7_clear 9 = .ok (.getfield 35, 3) := dk_180 0 35 (dk_at dksX7_clear_0 9 rfl rfl)
theorem dX7_clear_12 : decode cX7_clear 12 = .ok (.iconst 0, 1) := dk_3 (dk_at dksX7_clear_0 12 rfl rfl)
theorem dX7_clear_13 : decode cX7_clear 13 = .ok (.invokestatic 42, 3) := dk_184 0 42 (dk_at dksX7_clear_0 13 rfl rfl)
theorem dX7_clear_16 : decode cX7_clear 16 = .ok (.aload_n 0, 1) := dk_42 (dk_at dksX7_clear_0 16 rfl rfl)
theorem dX7_clear_17 : decode cX7_clear 17 = .ok (.getfield 38, 3) := dk_180 0 38 (dk_at dksX7_clear_0 17 rfl rfl)
theorem dX7_clear_20 : decode cX7_clear 20 = .ok (.iconst 0, 1) := dk_3 (dk_at dksX7_clear_0 20 rfl rfl)
theorem dX7_clear_21 : decode cX7_clear 21 = .ok (.invokestatic 48, 3) := dk_184 0 48 (dk_at dksX7_clear_0 21 rfl rfl)
theorem dX7_clear_24 : decode cX7_clear 24 = .ok (.return_, 1) := dk_177 (dk_at dksX7_clear_1 0 rfl rfl)
abbrev cX7_fetch : ByteArray := prog_8_method_5_code
def yX7_fetch : MethodName := ⟨RX7, "fetch", "()I"⟩
def dkwX7_fetch_2 : List UInt8 := [180, 0, 38, 27, 3, 84, 27, 172, 132, 1, 1, 167, 255, 204, 187, 0, 55, 89, 18, 57, 183, 0, 59, 191]
abbrev dktX7_fetch_2 : List UInt8 := dkwX7_fetch_2 ++ []
def dkwX7_fetch_1 : List UInt8 := [180, 0, 9, 27, 182, 0, 51, 42, 180, 0, 31, 27, 5, 79, 42, 180, 0, 35, 27, 3, 79, 42]
abbrev dktX7_fetch_1 : List UInt8 := dkwX7_fetch_1 ++ dktX7_fetch_2
def dkwX7_fetch_0 : List UInt8 := [42, 180, 0, 15, 60, 27, 42, 180, 0, 31, 190, 162, 0, 49, 42, 180, 0, 31, 27, 46, 154, 0, 34, 42]
abbrev dktX7_fetch_0 : List UInt8 := dkwX7_fetch_0 ++ dktX7_fetch_1
theorem dksX7_fetch_0 : cX7_fetch.data.toList.drop 0 = dktX7_fetch_0 := by decide +kernel
theorem dksX7_fetch_1 : cX7_fetch.data.toList.drop 24 = dktX7_fetch_1 := dk_seg dksX7_fetch_0 24 rfl rfl
theorem dksX7_fetch_2 : cX7_fetch.data.toList.drop 46 = dktX7_fetch_2 := dk_seg dksX7_fetch_1 22 rfl rfl
theorem dX7_fetch_0 : decode cX7_fetch 0 = .ok (.aload_n 0, 1) := dk_42 (dk_at dksX7_fetch_0 0 rfl rfl)
theorem dX7_fetch_1 : decode cX7_fetch 1 = .ok (.getfield 15, 3) := dk_180 0 15 (dk_at dksX7_fetch_0 1 rfl rfl)
theorem dX7_fetch_4 : decode cX7_fetch 4 = .ok (.istore_n 1, 1) := dk_60 (dk_at dksX7_fetch_0 4 rfl rfl)
theorem dX7_fetch_5 : decode cX7_fetch 5 = .ok (.iload_n 1, 1) := dk_27 (dk_at dksX7_fetch_0 5 rfl rfl)
theorem dX7_fetch_6 : decode cX7_fetch 6 = .ok (.aload_n 0, 1) := dk_42 (dk_at dksX7_fetch_0 6 rfl rfl)
theorem dX7_fetch_7 : decode cX7_fetch 7 = .ok (.getfield 31, 3) := dk_180 0 31 (dk_at dksX7_fetch_0 7 rfl rfl)
theorem dX7_fetch_10 : decode cX7_fetch 10 = .ok (.arraylength, 1) := dk_190 (dk_at dksX7_fetch_0 10 rfl rfl)
theorem dX7_fetch_11 : decode cX7_fetch 11 = .ok (.if_icmp .ge 49, 3) := dk_162 0 49 (dk_at dksX7_fetch_0 11 rfl rfl)
theorem dX7_fetch_14 : decode cX7_fetch 14 = .ok (.aload_n 0, 1) := dk_42 (dk_at dksX7_fetch_0 14 rfl rfl)
theorem dX7_fetch_15 : decode cX7_fetch 15 = .ok (.getfield 31, 3) := dk_180 0 31 (dk_at dksX7_fetch_0 15 rfl rfl)
theorem dX7_fetch_18 : decode cX7_fetch 18 = .ok (.iload_n 1, 1) := dk_27 (dk_at dksX7_fetch_0 18 rfl rfl)
theorem dX7_fetch_19 : decode cX7_fetch 19 = .ok (.iaload, 1) := dk_46 (dk_at dksX7_fetch_0 19 rfl rfl)
theorem dX7_fetch_20 : decode cX7_fetch 20 = .ok (.ifCond .ne 34, 3) := dk_154 0 34 (dk_at dksX7_fetch_0 20 rfl rfl)
theorem dX7_fetch_23 : decode cX7_fetch 23 = .ok (.aload_n 0, 1) := dk_42 (dk_at dksX7_fetch_0 23 rfl rfl)
theorem dX7_fetch_24 : decode cX7_fetch 24 = .ok (.getfield 9, 3) := dk_180 0 9 (dk_at dksX7_fetch_1 0 rfl rfl)
theorem dX7_fetch_27 : decode cX7_fetch 27 = .ok (.iload_n 1, 1) := dk_27 (dk_at dksX7_fetch_1 3 rfl rfl)
theorem dX7_fetch_28 : decode cX7_fetch 28 = .ok (.invokevirtual 51, 3) := dk_182 0 51 (dk_at dksX7_fetch_1 4 rfl rfl)
theorem dX7_fetch_31 : decode cX7_fetch 31 = .ok (.aload_n 0, 1) := dk_42 (dk_at dksX7_fetch_1 7 rfl rfl)
theorem dX7_fetch_32 : decode cX7_fetch 32 = .ok (.getfield 31, 3) := dk_180 0 31 (dk_at dksX7_fetch_1 8 rfl rfl)
theorem dX7_fetch_35 : decode cX7_fetch 35 = .ok (.iload_n 1, 1) := dk_27 (dk_at dksX7_fetch_1 11 rfl rfl)
theorem dX7_fetch_36 : decode cX7_fetch 36 = .ok (.iconst 2, 1) := dk_5 (dk_at dksX7_fetch_1 12 rfl rfl)
theorem dX7_fetch_37 : decode cX7_fetch 37 = .ok (.iastore, 1) := dk_79 (dk_at dksX7_fetch_1 13 rfl rfl)
theorem dX7_fetch_38 : decode cX7_fetch 38 = .ok (.aload_n 0, 1) := dk_42 (dk_at dksX7_fetch_1 14 rfl rfl)
theorem dX7_fetch_39 : decode cX7_fetch 39 = .ok (.getfield 35, 3) := dk_180 0 35 (dk_at dksX7_fetch_1 15 rfl rfl)
theorem dX7_fetch_42 : decode cX7_fetch 42 = .ok (.iload_n 1, 1) := dk_27 (dk_at dksX7_fetch_1 18 rfl rfl)
theorem dX7_fetch_43 : decode cX7_fetch 43 = .ok (.iconst 0, 1) := dk_3 (dk_at dksX7_fetch_1 19 rfl rfl)
theorem dX7_fetch_44 : decode cX7_fetch 44 = .ok (.iastore, 1) := dk_79 (dk_at dksX7_fetch_1 20 rfl rfl)
theorem dX7_fetch_45 : decode cX7_fetch 45 = .ok (.aload_n 0, 1) := dk_42 (dk_at dksX7_fetch_1 21 rfl rfl)
theorem dX7_fetch_46 : decode cX7_fetch 46 = .ok (.getfield 38, 3) := dk_180 0 38 (dk_at dksX7_fetch_2 0 rfl rfl)
theorem dX7_fetch_49 : decode cX7_fetch 49 = .ok (.iload_n 1, 1) := dk_27 (dk_at dksX7_fetch_2 3 rfl rfl)
theorem dX7_fetch_50 : decode cX7_fetch 50 = .ok (.iconst 0, 1) := dk_3 (dk_at dksX7_fetch_2 4 rfl rfl)
theorem dX7_fetch_51 : decode cX7_fetch 51 = .ok (.bastore, 1) := dk_84 (dk_at dksX7_fetch_2 5 rfl rfl)
theorem dX7_fetch_52 : decode cX7_fetch 52 = .ok (.iload_n 1, 1) := dk_27 (dk_at dksX7_fetch_2 6 rfl rfl)
theorem dX7_fetch_53 : decode cX7_fetch 53 = .ok (.ireturn, 1) := dk_172 (dk_at dksX7_fetch_2 7 rfl rfl)
theorem dX7_fetch_54 : decode cX7_fetch 54 = .ok (.iinc 1 1, 3) := dk_132 1 1 (dk_at dksX7_fetch_2 8 rfl rfl)
theorem dX7_fetch_57 : decode cX7_fetch 57 = .ok (.goto (-52), 3) := dk_167 255 204 (dk_at dksX7_fetch_2 11 rfl rfl)
theorem dX7_fetch_60 : decode cX7_fetch 60 = .ok (.new 55, 3) := dk_187 0 55 (dk_at dksX7_fetch_2 14 rfl rfl)
theorem dX7_fetch_63 : decode cX7_fetch 63 = .ok (.dup, 1) := dk_89 (dk_at dksX7_fetch_2 17 rfl rfl)
theorem dX7_fetch_64 : decode cX7_fetch 64 = .ok (.ldc 57, 2) := dk_18 57 (dk_at dksX7_fetch_2 18 rfl rfl)
theorem dX7_fetch_66 : decode cX7_fetch 66 = .ok (.invokespecial 59, 3) := dk_183 0 59 (dk_at dksX7_fetch_2 20 rfl rfl)
theorem dX7_fetch_69 : decode cX7_fetch 69 = .ok (.athrow, 1) := dk_191 (dk_at dksX7_fetch_2 23 rfl rfl)
abbrev cX7_sweep : ByteArray := prog_8_method_6_code
def yX7_sweep : MethodName := ⟨RX7, "sweep", "()V"⟩
def dkwX7_sweep_2 : List UInt8 := [132, 1, 1, 167, 255, 210, 177]
abbrev dktX7_sweep_2 : List UInt8 := dkwX7_sweep_2 ++ []
def dkwX7_sweep_1 : List UInt8 := [42, 180, 0, 35, 27, 46, 154, 0, 18, 42, 180, 0, 9, 27, 182, 0, 51, 42, 180, 0, 31, 27, 3, 79]
abbrev dktX7_sweep_1 : List UInt8 := dkwX7_sweep_1 ++ dktX7_sweep_2
def dkwX7_sweep_0 : List UInt8 := [42, 180, 0, 15, 60, 27, 42, 180, 0, 31, 190, 162, 0, 43, 42, 180, 0, 31, 27, 46, 4, 160, 0, 27]
abbrev dktX7_sweep_0 : List UInt8 := dkwX7_sweep_0 ++ dktX7_sweep_1
theorem dksX7_sweep_0 : cX7_sweep.data.toList.drop 0 = dktX7_sweep_0 := by decide +kernel
theorem dksX7_sweep_1 : cX7_sweep.data.toList.drop 24 = dktX7_sweep_1 := dk_seg dksX7_sweep_0 24 rfl rfl
theorem dksX7_sweep_2 : cX7_sweep.data.toList.drop 48 = dktX7_sweep_2 := dk_seg dksX7_sweep_1 24 rfl rfl
theorem dX7_sweep_0 : decode cX7_sweep 0 = .ok (.aload_n 0, 1) := dk_42 (dk_at dksX7_sweep_0 0 rfl rfl)
theorem dX7_sweep_1 : decode cX7_sweep 1 = .ok (.getfield 15, 3) := dk_180 0 15 (dk_at dksX7_sweep_0 1 rfl rfl)
theorem dX7_sweep_4 : decode cX7_sweep 4 = .ok (.istore_n 1, 1) := dk_60 (dk_at dksX7_sweep_0 4 rfl rfl)
theorem dX7_sweep_5 : decode cX7_sweep 5 = .ok (.iload_n 1, 1) := dk_27 (dk_at dksX7_sweep_0 5 rfl rfl)
theorem dX7_sweep_6 : decode cX7_sweep 6 = .ok (.aload_n 0, 1) := dk_42 (dk_at dksX7_sweep_0 6 rfl rfl)
theorem dX7_sweep_7 : decode cX7_sweep 7 = .ok (.getfield 31, 3) := dk_180 0 31 (dk_at dksX7_sweep_0 7 rfl rfl)
theorem dX7_sweep_10 : decode cX7_sweep 10 = .ok (.arraylength, 1) := dk_190 (dk_at dksX7_sweep_0 10 rfl rfl)
theorem dX7_sweep_11 : decode cX7_sweep 11 = .ok (.if_icmp .ge 43, 3) := dk_162 0 43 (dk_at dksX7_sweep_0 11 rfl rfl)
theorem dX7_sweep_14 : decode cX7_sweep 14 = .ok (.aload_n 0, 1) := dk_42 (dk_at dksX7_sweep_0 14 rfl rfl)
theorem dX7_sweep_15 : decode cX7_sweep 15 = .ok (.getfield 31, 3) := dk_180 0 31 (dk_at dksX7_sweep_0 15 rfl rfl)
theorem dX7_sweep_18 : decode cX7_sweep 18 = .ok (.iload_n 1, 1) := dk_27 (dk_at dksX7_sweep_0 18 rfl rfl)
theorem dX7_sweep_19 : decode cX7_sweep 19 = .ok (.iaload, 1) := dk_46 (dk_at dksX7_sweep_0 19 rfl rfl)
theorem dX7_sweep_20 : decode cX7_sweep 20 = .ok (.iconst 1, 1) := dk_4 (dk_at dksX7_sweep_0 20 rfl rfl)
theorem dX7_sweep_21 : decode cX7_sweep 21 = .ok (.if_icmp .ne 27, 3) := dk_160 0 27 (dk_at dksX7_sweep_0 21 rfl rfl)
theorem dX7_sweep_24 : decode cX7_sweep 24 = .ok (.aload_n 0, 1) := dk_42 (dk_at dksX7_sweep_1 0 rfl rfl)
theorem dX7_sweep_25 : decode cX7_sweep 25 = .ok (.getfield 35, 3) := dk_180 0 35 (dk_at dksX7_sweep_1 1 rfl rfl)
theorem dX7_sweep_28 : decode cX7_sweep 28 = .ok (.iload_n 1, 1) := dk_27 (dk_at dksX7_sweep_1 4 rfl rfl)
theorem dX7_sweep_29 : decode cX7_sweep 29 = .ok (.iaload, 1) := dk_46 (dk_at dksX7_sweep_1 5 rfl rfl)
theorem dX7_sweep_30 : decode cX7_sweep 30 = .ok (.ifCond .ne 18, 3) := dk_154 0 18 (dk_at dksX7_sweep_1 6 rfl rfl)
theorem dX7_sweep_33 : decode cX7_sweep 33 = .ok (.aload_n 0, 1) := dk_42 (dk_at dksX7_sweep_1 9 rfl rfl)
theorem dX7_sweep_34 : decode cX7_sweep 34 = .ok (.getfield 9, 3) := dk_180 0 9 (dk_at dksX7_sweep_1 10 rfl rfl)
theorem dX7_sweep_37 : decode cX7_sweep 37 = .ok (.iload_n 1, 1) := dk_27 (dk_at dksX7_sweep_1 13 rfl rfl)
theorem dX7_sweep_38 : decode cX7_sweep 38 = .ok (.invokevirtual 51, 3) := dk_182 0 51 (dk_at dksX7_sweep_1 14 rfl rfl)
theorem dX7_sweep_41 : decode cX7_sweep 41 = .ok (.aload_n 0, 1) := dk_42 (dk_at dksX7_sweep_1 17 rfl rfl)
theorem dX7_sweep_42 : decode cX7_sweep 42 = .ok (.getfield 31, 3) := dk_180 0 31 (dk_at dksX7_sweep_1 18 rfl rfl)
theorem dX7_sweep_45 : decode cX7_sweep 45 = .ok (.iload_n 1, 1) := dk_27 (dk_at dksX7_sweep_1 21 rfl rfl)
theorem dX7_sweep_46 : decode cX7_sweep 46 = .ok (.iconst 0, 1) := dk_3 (dk_at dksX7_sweep_1 22 rfl rfl)
theorem dX7_sweep_47 : decode cX7_sweep 47 = .ok (.iastore, 1) := dk_79 (dk_at dksX7_sweep_1 23 rfl rfl)
theorem dX7_sweep_48 : decode cX7_sweep 48 = .ok (.iinc 1 1, 3) := dk_132 1 1 (dk_at dksX7_sweep_2 0 rfl rfl)
theorem dX7_sweep_51 : decode cX7_sweep 51 = .ok (.goto (-46), 3) := dk_167 255 210 (dk_at dksX7_sweep_2 3 rfl rfl)
theorem dX7_sweep_54 : decode cX7_sweep 54 = .ok (.return_, 1) := dk_177 (dk_at dksX7_sweep_2 6 rfl rfl)
abbrev cX7_empty : ByteArray := prog_8_method_3_code
def yX7_empty : MethodName := ⟨RX7, "empty", "()I"⟩
def dkwX7_empty_1 : List UInt8 := [154, 0, 7, 4, 167, 0, 4, 3, 96, 60, 132, 2, 1, 167, 255, 227, 27, 172]
abbrev dktX7_empty_1 : List UInt8 := dkwX7_empty_1 ++ []
def dkwX7_empty_0 : List UInt8 := [3, 60, 42, 180, 0, 15, 61, 28, 42, 180, 0, 31, 190, 162, 0, 26, 27, 42, 180, 0, 31, 28, 46]
abbrev dktX7_empty_0 : List UInt8 := dkwX7_empty_0 ++ dktX7_empty_1
theorem dksX7_empty_0 : cX7_empty.data.toList.drop 0 = dktX7_empty_0 := by decide +kernel
theorem dksX7_empty_1 : cX7_empty.data.toList.drop 23 = dktX7_empty_1 := dk_seg dksX7_empty_0 23 rfl rfl
theorem dX7_empty_0 : decode cX7_empty 0 = .ok (.iconst 0, 1) := dk_3 (dk_at dksX7_empty_0 0 rfl rfl)
theorem dX7_empty_1 : decode cX7_empty 1 = .ok (.istore_n 1, 1) := dk_60 (dk_at dksX7_empty_0 1 rfl rfl)
theorem dX7_empty_2 : decode cX7_empty 2 = .ok (.aload_n 0, 1) := dk_42 (dk_at dksX7_empty_0 2 rfl rfl)
theorem dX7_empty_3 : decode cX7_empty 3 = .ok (.getfield 15, 3) := dk_180 0 15 (dk_at dksX7_empty_0 3 rfl rfl)
theorem dX7_empty_6 : decode cX7_empty 6 = .ok (.istore_n 2, 1) := dk_61 (dk_at dksX7_empty_0 6 rfl rfl)
theorem dX7_empty_7 : decode cX7_empty 7 = .ok (.iload_n 2, 1) := dk_28 (dk_at dksX7_empty_0 7 rfl rfl)
theorem dX7_empty_8 : decode cX7_empty 8 = .ok (.aload_n 0, 1) := dk_42 (dk_at dksX7_empty_0 8 rfl rfl)
theorem dX7_empty_9 : decode cX7_empty 9 = .ok (.getfield 31, 3) := dk_180 0 31 (dk_at dksX7_empty_0 9 rfl rfl)
theorem dX7_empty_12 : decode cX7_empty 12 = .ok (.arraylength, 1) := dk_190 (dk_at dksX7_empty_0 12 rfl rfl)
theorem dX7_empty_13 : decode cX7_empty 13 = .ok (.if_icmp .ge 26, 3) := dk_162 0 26 (dk_at dksX7_empty_0 13 rfl rfl)
theorem dX7_empty_16 : decode cX7_empty 16 = .ok (.iload_n 1, 1) := dk_27 (dk_at dksX7_empty_0 16 rfl rfl)
theorem dX7_empty_17 : decode cX7_empty 17 = .ok (.aload_n 0, 1) := dk_42 (dk_at dksX7_empty_0 17 rfl rfl)
theorem dX7_empty_18 : decode cX7_empty 18 = .ok (.getfield 31, 3) := dk_180 0 31 (dk_at dksX7_empty_0 18 rfl rfl)
theorem dX7_empty_21 : decode cX7_empty 21 = .ok (.iload_n 2, 1) := dk_28 (dk_at dksX7_empty_0 21 rfl rfl)
theorem dX7_empty_22 : decode cX7_empty 22 = .ok (.iaload, 1) := dk_46 (dk_at dksX7_empty_0 22 rfl rfl)
theorem dX7_empty_23 : decode cX7_empty 23 = .ok (.ifCond .ne 7, 3) := dk_154 0 7 (dk_at dksX7_empty_1 0 rfl rfl)
theorem dX7_empty_26 : decode cX7_empty 26 = .ok (.iconst 1, 1) := dk_4 (dk_at dksX7_empty_1 3 rfl rfl)
theorem dX7_empty_27 : decode cX7_empty 27 = .ok (.goto 4, 3) := dk_167 0 4 (dk_at dksX7_empty_1 4 rfl rfl)
theorem dX7_empty_30 : decode cX7_empty 30 = .ok (.iconst 0, 1) := dk_3 (dk_at dksX7_empty_1 7 rfl rfl)
theorem dX7_empty_31 : decode cX7_empty 31 = .ok (.iadd, 1) := dk_96 (dk_at dksX7_empty_1 8 rfl rfl)
theorem dX7_empty_32 : decode cX7_empty 32 = .ok (.istore_n 1, 1) := dk_60 (dk_at dksX7_empty_1 9 rfl rfl)
theorem dX7_empty_33 : decode cX7_empty 33 = .ok (.iinc 2 1, 3) := dk_132 2 1 (dk_at dksX7_empty_1 10 rfl rfl)
theorem dX7_empty_36 : decode cX7_empty 36 = .ok (.goto (-29), 3) := dk_167 255 227 (dk_at dksX7_empty_1 13 rfl rfl)
theorem dX7_empty_39 : decode cX7_empty 39 = .ok (.iload_n 1, 1) := dk_27 (dk_at dksX7_empty_1 16 rfl rfl)
theorem dX7_empty_40 : decode cX7_empty 40 = .ok (.ireturn, 1) := dk_172 (dk_at dksX7_empty_1 17 rfl rfl)
abbrev cX7_roomy : ByteArray := prog_8_method_4_code
def yX7_roomy : MethodName := ⟨RX7, "roomy", "()I"⟩
def dkwX7_roomy_2 : List UInt8 := [167, 255, 218, 27, 172]
abbrev dktX7_roomy_2 : List UInt8 := dkwX7_roomy_2 ++ []
def dkwX7_roomy_1 : List UInt8 := [153, 0, 12, 42, 180, 0, 38, 28, 51, 153, 0, 7, 4, 167, 0, 4, 3, 96, 60, 132, 2, 1]
abbrev dktX7_roomy_1 : List UInt8 := dkwX7_roomy_1 ++ dktX7_roomy_2
def dkwX7_roomy_0 : List UInt8 := [3, 60, 42, 180, 0, 15, 61, 28, 42, 180, 0, 31, 190, 162, 0, 35, 27, 42, 180, 0, 31, 28, 46]
abbrev dktX7_roomy_0 : List UInt8 := dkwX7_roomy_0 ++ dktX7_roomy_1
theorem dksX7_roomy_0 : cX7_roomy.data.toList.drop 0 = dktX7_roomy_0 := by decide +kernel
theorem dksX7_roomy_1 : cX7_roomy.data.toList.drop 23 = dktX7_roomy_1 := dk_seg dksX7_roomy_0 23 rfl rfl
theorem dksX7_roomy_2 : cX7_roomy.data.toList.drop 45 = dktX7_roomy_2 := dk_seg dksX7_roomy_1 22 rfl rfl
theorem dX7_roomy_0 : decode cX7_roomy 0 = .ok (.iconst 0, 1) := dk_3 (dk_at dksX7_roomy_0 0 rfl rfl)
theorem dX7_roomy_1 : decode cX7_roomy 1 = .ok (.istore_n 1, 1) := dk_60 (dk_at dksX7_roomy_0 1 rfl rfl)
theorem dX7_roomy_2 : decode cX7_roomy 2 = .ok (.aload_n 0, 1) := dk_42 (dk_at dksX7_roomy_0 2 rfl rfl)
theorem dX7_roomy_3 : decode cX7_roomy 3 = .ok (.getfield 15, 3) := dk_180 0 15 (dk_at dksX7_roomy_0 3 rfl rfl)
theorem dX7_roomy_6 : decode cX7_roomy 6 = .ok (.istore_n 2, 1) := dk_61 (dk_at dksX7_roomy_0 6 rfl rfl)
theorem dX7_roomy_7 : decode cX7_roomy 7 = .ok (.iload_n 2, 1) := dk_28 (dk_at dksX7_roomy_0 7 rfl rfl)
theorem dX7_roomy_8 : decode cX7_roomy 8 = .ok (.aload_n 0, 1) := dk_42 (dk_at dksX7_roomy_0 8 rfl rfl)
theorem dX7_roomy_9 : decode cX7_roomy 9 = .ok (.getfield 31, 3) := dk_180 0 31 (dk_at dksX7_roomy_0 9 rfl rfl)
theorem dX7_roomy_12 : decode cX7_roomy 12 = .ok (.arraylength, 1) := dk_190 (dk_at dksX7_roomy_0 12 rfl rfl)
theorem dX7_roomy_13 : decode cX7_roomy 13 = .ok (.if_icmp .ge 35, 3) := dk_162 0 35 (dk_at dksX7_roomy_0 13 rfl rfl)
theorem dX7_roomy_16 : decode cX7_roomy 16 = .ok (.iload_n 1, 1) := dk_27 (dk_at dksX7_roomy_0 16 rfl rfl)
theorem dX7_roomy_17 : decode cX7_roomy 17 = .ok (.aload_n 0, 1) := dk_42 (dk_at dksX7_roomy_0 17 rfl rfl)
theorem dX7_roomy_18 : decode cX7_roomy 18 = .ok (.getfield 31, 3) := dk_180 0 31 (dk_at dksX7_roomy_0 18 rfl rfl)
theorem dX7_roomy_21 : decode cX7_roomy 21 = .ok (.iload_n 2, 1) := dk_28 (dk_at dksX7_roomy_0 21 rfl rfl)
theorem dX7_roomy_22 : decode cX7_roomy 22 = .ok (.iaload, 1) := dk_46 (dk_at dksX7_roomy_0 22 rfl rfl)
theorem dX7_roomy_23 : decode cX7_roomy 23 = .ok (.ifCond .eq 12, 3) := dk_153 0 12 (dk_at dksX7_roomy_1 0 rfl rfl)
theorem dX7_roomy_26 : decode cX7_roomy 26 = .ok (.aload_n 0, 1) := dk_42 (dk_at dksX7_roomy_1 3 rfl rfl)
theorem dX7_roomy_27 : decode cX7_roomy 27 = .ok (.getfield 38, 3) := dk_180 0 38 (dk_at dksX7_roomy_1 4 rfl rfl)
theorem dX7_roomy_30 : decode cX7_roomy 30 = .ok (.iload_n 2, 1) := dk_28 (dk_at dksX7_roomy_1 7 rfl rfl)
theorem dX7_roomy_31 : decode cX7_roomy 31 = .ok (.baload, 1) := dk_51 (dk_at dksX7_roomy_1 8 rfl rfl)
theorem dX7_roomy_32 : decode cX7_roomy 32 = .ok (.ifCond .eq 7, 3) := dk_153 0 7 (dk_at dksX7_roomy_1 9 rfl rfl)
theorem dX7_roomy_35 : decode cX7_roomy 35 = .ok (.iconst 1, 1) := dk_4 (dk_at dksX7_roomy_1 12 rfl rfl)
theorem dX7_roomy_36 : decode cX7_roomy 36 = .ok (.goto 4, 3) := dk_167 0 4 (dk_at dksX7_roomy_1 13 rfl rfl)
theorem dX7_roomy_39 : decode cX7_roomy 39 = .ok (.iconst 0, 1) := dk_3 (dk_at dksX7_roomy_1 16 rfl rfl)
theorem dX7_roomy_40 : decode cX7_roomy 40 = .ok (.iadd, 1) := dk_96 (dk_at dksX7_roomy_1 17 rfl rfl)
theorem dX7_roomy_41 : decode cX7_roomy 41 = .ok (.istore_n 1, 1) := dk_60 (dk_at dksX7_roomy_1 18 rfl rfl)
theorem dX7_roomy_42 : decode cX7_roomy 42 = .ok (.iinc 2 1, 3) := dk_132 2 1 (dk_at dksX7_roomy_1 19 rfl rfl)
theorem dX7_roomy_45 : decode cX7_roomy 45 = .ok (.goto (-38), 3) := dk_167 255 218 (dk_at dksX7_roomy_2 0 rfl rfl)
theorem dX7_roomy_48 : decode cX7_roomy 48 = .ok (.iload_n 1, 1) := dk_27 (dk_at dksX7_roomy_2 3 rfl rfl)
theorem dX7_roomy_49 : decode cX7_roomy 49 = .ok (.ireturn, 1) := dk_172 (dk_at dksX7_roomy_2 4 rfl rfl)
theorem q138 : (Jvm.Cond.initialized "NandHouse$Space") ∈ lw_all := lw_g (lw_at lw_m1 8 rfl) rfl
theorem q270 : (Jvm.Cond.fieldLink "NandHouse$Space" (28 : Nat) "NandHouse$Blocks" "numbers" "I") ∈ lw_all := lw_g (lw_at lw_m1 140 rfl) rfl
theorem q327 : (Jvm.Cond.instantiable "NandHouse$Space" (6 : Nat)) ∈ lw_all := lw_g (lw_at lw_m1 197 rfl) rfl
theorem q329 : (Jvm.Cond.instanceMethod ({ cls := "NandHouse$Space", name := "<init>", desc := "(LNandHouse$Blocks;I)V" } : Jvm.MethodName)) ∈ lw_all := lw_g (lw_at lw_m1 199 rfl) rfl
theorem q330 : (Jvm.Cond.code ({ cls := "NandHouse$Space", name := "<init>", desc := "(LNandHouse$Blocks;I)V" } : Jvm.MethodName) prog_8_method_1_code (3 : Nat) (Option.none : Option Jvm.ClassFile.FieldType)) ∈ lw_all := lw_g (lw_at lw_m1 200 rfl) rfl
theorem q331 : (Jvm.Cond.methodLink "NandHouse$Space" (3 : Nat) ({ cls := "java/lang/Object", name := "<init>", desc := "()V" } : Jvm.MethodName)) ∈ lw_all := lw_g (lw_at lw_m1 201 rfl) rfl
theorem q332 : (Jvm.Cond.methodLink "NandHouse$Space" (19 : Nat) ({ cls := "NandHouse$Blocks", name := "pages", desc := "()I" } : Jvm.MethodName)) ∈ lw_all := lw_g (lw_at lw_m1 202 rfl) rfl
theorem q336 : (Jvm.Cond.fieldLink "NandHouse$Space" (9 : Nat) "NandHouse$Space" "blocks" "LNandHouse$Blocks;") ∈ lw_all := lw_g (lw_at lw_m1 206 rfl) rfl
theorem q337 : (Jvm.Cond.fieldLink "NandHouse$Space" (15 : Nat) "NandHouse$Space" "first" "I") ∈ lw_all := lw_g (lw_at lw_m1 207 rfl) rfl
theorem q339 : (Jvm.Cond.fieldLink "NandHouse$Space" (25 : Nat) "NandHouse$Space" "size" "I") ∈ lw_all := lw_g (lw_at lw_m1 209 rfl) rfl
theorem q342 : (Jvm.Cond.fieldLink "NandHouse$Space" (31 : Nat) "NandHouse$Space" "use" "[I") ∈ lw_all := lw_g (lw_at lw_m1 212 rfl) rfl
theorem q345 : (Jvm.Cond.fieldLink "NandHouse$Space" (35 : Nat) "NandHouse$Space" "live" "[I") ∈ lw_all := lw_g (lw_at lw_m1 215 rfl) rfl
theorem q348 : (Jvm.Cond.fieldLink "NandHouse$Space" (38 : Nat) "NandHouse$Space" "ofIndex" "[Z") ∈ lw_all := lw_g (lw_at lw_m1 218 rfl) rfl
theorem q350 : (Jvm.Cond.laysFinal "NandHouse$Space" "NandHouse$Space" "blocks" "LNandHouse$Blocks;") ∈ lw_all := lw_g (lw_at lw_m1 220 rfl) rfl
theorem q351 : (Jvm.Cond.soleField "NandHouse$Space" "blocks") ∈ lw_all := lw_g (lw_at lw_m1 221 rfl) rfl
theorem q352 : (Jvm.Cond.laysFinal "NandHouse$Space" "NandHouse$Space" "first" "I") ∈ lw_all := lw_g (lw_at lw_m1 222 rfl) rfl
theorem q353 : (Jvm.Cond.soleField "NandHouse$Space" "first") ∈ lw_all := lw_g (lw_at lw_m1 223 rfl) rfl
theorem q354 : (Jvm.Cond.laysFinal "NandHouse$Space" "NandHouse$Space" "size" "I") ∈ lw_all := lw_g (lw_at lw_m1 224 rfl) rfl
theorem q355 : (Jvm.Cond.soleField "NandHouse$Space" "size") ∈ lw_all := lw_g (lw_at lw_m1 225 rfl) rfl
theorem q356 : (Jvm.Cond.laysFinal "NandHouse$Space" "NandHouse$Space" "use" "[I") ∈ lw_all := lw_g (lw_at lw_m1 226 rfl) rfl
theorem q357 : (Jvm.Cond.soleField "NandHouse$Space" "use") ∈ lw_all := lw_g (lw_at lw_m1 227 rfl) rfl
theorem q358 : (Jvm.Cond.laysFinal "NandHouse$Space" "NandHouse$Space" "live" "[I") ∈ lw_all := lw_g (lw_at lw_m1 228 rfl) rfl
theorem q359 : (Jvm.Cond.soleField "NandHouse$Space" "live") ∈ lw_all := lw_g (lw_at lw_m1 229 rfl) rfl
theorem q360 : (Jvm.Cond.laysFinal "NandHouse$Space" "NandHouse$Space" "ofIndex" "[Z") ∈ lw_all := lw_g (lw_at lw_m1 230 rfl) rfl
theorem q361 : (Jvm.Cond.soleField "NandHouse$Space" "ofIndex") ∈ lw_all := lw_g (lw_at lw_m1 231 rfl) rfl
theorem q362 : (Jvm.Cond.superclass "NandHouse$Space" "java/lang/Object") ∈ lw_all := lw_g (lw_at lw_m1 232 rfl) rfl
theorem q713 : (Jvm.Cond.instanceMethod ({ cls := "NandHouse$Space", name := "clear", desc := "()V" } : Jvm.MethodName)) ∈ lw_all := lw_g (lw_at lw_m3 103 rfl) rfl
theorem q714 : (Jvm.Cond.selects "NandHouse$Space" ({ cls := "NandHouse$Space", name := "clear", desc := "()V" } : Jvm.MethodName) ({ cls := "NandHouse$Space", name := "clear", desc := "()V" } : Jvm.MethodName)) ∈ lw_all := lw_g (lw_at lw_m3 104 rfl) rfl
theorem q715 : (Jvm.Cond.code ({ cls := "NandHouse$Space", name := "clear", desc := "()V" } : Jvm.MethodName) prog_8_method_2_code (1 : Nat) (Option.none : Option Jvm.ClassFile.FieldType)) ∈ lw_all := lw_g (lw_at lw_m3 105 rfl) rfl
theorem q716 : (Jvm.Cond.methodLink "NandHouse$Space" (42 : Nat) ({ cls := "java/util/Arrays", name := "fill", desc := "([II)V" } : Jvm.MethodName)) ∈ lw_all := lw_g (lw_at lw_m3 106 rfl) rfl
theorem q717 : (Jvm.Cond.methodLink "NandHouse$Space" (48 : Nat) ({ cls := "java/util/Arrays", name := "fill", desc := "([ZZ)V" } : Jvm.MethodName)) ∈ lw_all := lw_g (lw_at lw_m3 107 rfl) rfl
theorem q772 : (Jvm.Cond.instanceMethod ({ cls := "NandHouse$Space", name := "fetch", desc := "()I" } : Jvm.MethodName)) ∈ lw_all := lw_g (lw_at lw_m3 162 rfl) rfl
theorem q773 : (Jvm.Cond.selects "NandHouse$Space" ({ cls := "NandHouse$Space", name := "fetch", desc := "()I" } : Jvm.MethodName) ({ cls := "NandHouse$Space", name := "fetch", desc := "()I" } : Jvm.MethodName)) ∈ lw_all := lw_g (lw_at lw_m3 163 rfl) rfl
theorem q774 : (Jvm.Cond.code ({ cls := "NandHouse$Space", name := "fetch", desc := "()I" } : Jvm.MethodName) prog_8_method_5_code (2 : Nat) (Option.some Jvm.ClassFile.FieldType.int)) ∈ lw_all := lw_g (lw_at lw_m3 164 rfl) rfl
theorem q775 : (Jvm.Cond.methodLink "NandHouse$Space" (51 : Nat) ({ cls := "NandHouse$Blocks", name := "drop", desc := "(I)V" } : Jvm.MethodName)) ∈ lw_all := lw_g (lw_at lw_m3 165 rfl) rfl
theorem q787 : (Jvm.Cond.classLink "NandHouse$Space" (55 : Nat) "java/lang/IllegalStateException") ∈ lw_all := lw_g (lw_at lw_m3 177 rfl) rfl
theorem q826 : (Jvm.Cond.stringRef "NandHouse$Space" (57 : Nat) "no room is left") ∈ lw_tbl := lw_at lw_m3 216 rfl
theorem q827 : (Jvm.Cond.methodLink "NandHouse$Space" (59 : Nat) ({ cls := "java/lang/IllegalStateException", name := "<init>", desc := "(Ljava/lang/String;)V" } : Jvm.MethodName)) ∈ lw_all := lw_g (lw_at lw_m3 217 rfl) rfl
theorem q1030 : (Jvm.Cond.instanceMethod ({ cls := "NandHouse$Space", name := "sweep", desc := "()V" } : Jvm.MethodName)) ∈ lw_all := lw_g (lw_at lw_m4 180 rfl) rfl
theorem q1031 : (Jvm.Cond.selects "NandHouse$Space" ({ cls := "NandHouse$Space", name := "sweep", desc := "()V" } : Jvm.MethodName) ({ cls := "NandHouse$Space", name := "sweep", desc := "()V" } : Jvm.MethodName)) ∈ lw_all := lw_g (lw_at lw_m4 181 rfl) rfl
theorem q1032 : (Jvm.Cond.code ({ cls := "NandHouse$Space", name := "sweep", desc := "()V" } : Jvm.MethodName) prog_8_method_6_code (2 : Nat) (Option.none : Option Jvm.ClassFile.FieldType)) ∈ lw_all := lw_g (lw_at lw_m4 182 rfl) rfl
theorem q1038 : (Jvm.Cond.instanceMethod ({ cls := "NandHouse$Space", name := "empty", desc := "()I" } : Jvm.MethodName)) ∈ lw_all := lw_g (lw_at lw_m4 188 rfl) rfl
theorem q1039 : (Jvm.Cond.selects "NandHouse$Space" ({ cls := "NandHouse$Space", name := "empty", desc := "()I" } : Jvm.MethodName) ({ cls := "NandHouse$Space", name := "empty", desc := "()I" } : Jvm.MethodName)) ∈ lw_all := lw_g (lw_at lw_m4 189 rfl) rfl
theorem q1040 : (Jvm.Cond.code ({ cls := "NandHouse$Space", name := "empty", desc := "()I" } : Jvm.MethodName) prog_8_method_3_code (3 : Nat) (Option.some Jvm.ClassFile.FieldType.int)) ∈ lw_all := lw_g (lw_at lw_m4 190 rfl) rfl
theorem q1278 : (Jvm.Cond.instanceMethod ({ cls := "NandHouse$Space", name := "roomy", desc := "()I" } : Jvm.MethodName)) ∈ lw_all := lw_g (lw_at lw_m5 188 rfl) rfl
theorem q1279 : (Jvm.Cond.selects "NandHouse$Space" ({ cls := "NandHouse$Space", name := "roomy", desc := "()I" } : Jvm.MethodName) ({ cls := "NandHouse$Space", name := "roomy", desc := "()I" } : Jvm.MethodName)) ∈ lw_all := lw_g (lw_at lw_m5 189 rfl) rfl
theorem q1280 : (Jvm.Cond.code ({ cls := "NandHouse$Space", name := "roomy", desc := "()I" } : Jvm.MethodName) prog_8_method_4_code (3 : Nat) (Option.some Jvm.ClassFile.FieldType.int)) ∈ lw_all := lw_g (lw_at lw_m5 190 rfl) rfl
theorem in_X7 : ∀ w ∈ wsX70, w ∈ lw_all := lw_in wsX70 [350, 352, 354, 356, 358, 360] (by decide +kernel) (by decide +kernel)
/-! NandHouse$Knot -/
set_option maxRecDepth 100000
def RX9 : String := "NandHouse$Knot"
def TX9 : u_T := fun k => match k with
  | 0 => ("NandHouse$Knot", "level", "I", false)
  | 1 => ("NandHouse$Knot", "count", "I", false)
  | 2 => ("NandHouse$Knot", "high", "[J", true)
  | 3 => ("NandHouse$Knot", "low", "[J", true)
  | 4 => ("NandHouse$Knot", "number", "[I", true)
  | 5 => ("NandHouse$Knot", "place", "[I", true)
  | 6 => ("NandHouse$Knot", "size", "[I", true)
  | 7 => ("NandHouse$Knot", "below", "[LNandHouse$Knot;", true)
  | 8 => ("NandHouse$Knot", "fresh", "Z", false)
  | 9 => ("NandHouse$Knot", "ownNumber", "I", false)
  | 10 => ("NandHouse$Knot", "ownPlace", "I", false)
  | _ => ("NandHouse$Knot", "ownSize", "I", false)
def tyX9 : Nat → FieldType := fun k => match k with
  | 0 => .int
  | 1 => .int
  | 2 => .array .long
  | 3 => .array .long
  | 4 => .array .int
  | 5 => .array .int
  | 6 => .array .int
  | 7 => .array (.object "NandHouse$Knot")
  | 8 => .boolean
  | 9 => .int
  | 10 => .int
  | _ => .int
abbrev wsX90 : List Cond := u_ws RX9 TX9 12
theorem nmX9 : ∀ a, a < 12 → ∀ b, b < 12 → a ≠ b → (TX9 a).2.1 ≠ (TX9 b).2.1 := by decide +kernel
theorem tyX9_ok : ∀ k, k < 12 → parseFieldDescriptor (TX9 k).2.2.1 = some (tyX9 k) := by decide +kernel
abbrev cX9_init : ByteArray := prog_6_method_1_code
def yX9_init : MethodName := ⟨RX9, "<init>", "()V"⟩
def dkwX9_init_2 : List UInt8 := [189, 0, 9, 181, 0, 28, 177]
abbrev dktX9_init_2 : List UInt8 := dkwX9_init_2 ++ []
def dkwX9_init_1 : List UInt8 := [188, 10, 181, 0, 18, 42, 16, 9, 188, 10, 181, 0, 22, 42, 16, 9, 188, 10, 181, 0, 25, 42, 16, 9]
abbrev dktX9_init_1 : List UInt8 := dkwX9_init_1 ++ dktX9_init_2
def dkwX9_init_0 : List UInt8 := [42, 183, 0, 3, 42, 16, 9, 188, 11, 181, 0, 11, 42, 16, 9, 188, 11, 181, 0, 15, 42, 16, 9]
abbrev dktX9_init_0 : List UInt8 := dkwX9_init_0 ++ dktX9_init_1
theorem dksX9_init_0 : cX9_init.data.toList.drop 0 = dktX9_init_0 := by decide +kernel
theorem dksX9_init_1 : cX9_init.data.toList.drop 23 = dktX9_init_1 := dk_seg dksX9_init_0 23 rfl rfl
theorem dksX9_init_2 : cX9_init.data.toList.drop 47 = dktX9_init_2 := dk_seg dksX9_init_1 24 rfl rfl
theorem dX9_init_0 : decode cX9_init 0 = .ok (.aload_n 0, 1) := dk_42 (dk_at dksX9_init_0 0 rfl rfl)
theorem dX9_init_1 : decode cX9_init 1 = .ok (.invokespecial 3, 3) := dk_183 0 3 (dk_at dksX9_init_0 1 rfl rfl)
theorem dX9_init_4 : decode cX9_init 4 = .ok (.aload_n 0, 1) := dk_42 (dk_at dksX9_init_0 4 rfl rfl)
theorem dX9_init_5 : decode cX9_init 5 = .ok (.bipush 9, 2) := dk_16 9 (dk_at dksX9_init_0 5 rfl rfl)
theorem dX9_init_7 : decode cX9_init 7 = .ok (.newarray .long, 2) := dk_188_11 (dk_at dksX9_init_0 7 rfl rfl)
theorem dX9_init_9 : decode cX9_init 9 = .ok (.putfield 11, 3) := dk_181 0 11 (dk_at dksX9_init_0 9 rfl rfl)
theorem dX9_init_12 : decode cX9_init 12 = .ok (.aload_n 0, 1) := dk_42 (dk_at dksX9_init_0 12 rfl rfl)
theorem dX9_init_13 : decode cX9_init 13 = .ok (.bipush 9, 2) := dk_16 9 (dk_at dksX9_init_0 13 rfl rfl)
theorem dX9_init_15 : decode cX9_init 15 = .ok (.newarray .long, 2) := dk_188_11 (dk_at dksX9_init_0 15 rfl rfl)
theorem dX9_init_17 : decode cX9_init 17 = .ok (.putfield 15, 3) := dk_181 0 15 (dk_at dksX9_init_0 17 rfl rfl)
theorem dX9_init_20 : decode cX9_init 20 = .ok (.aload_n 0, 1) := dk_42 (dk_at dksX9_init_0 20 rfl rfl)
theorem dX9_init_21 : decode cX9_init 21 = .ok (.bipush 9, 2) := dk_16 9 (dk_at dksX9_init_0 21 rfl rfl)
theorem dX9_init_23 : decode cX9_init 23 = .ok (.newarray .int, 2) := dk_188_10 (dk_at dksX9_init_1 0 rfl rfl)
theorem dX9_init_25 : decode cX9_init 25 = .ok (.putfield 18, 3) := dk_181 0 18 (dk_at dksX9_init_1 2 rfl rfl)
theorem dX9_init_28 : decode cX9_init 28 = .ok (.aload_n 0, 1) := dk_42 (dk_at dksX9_init_1 5 rfl rfl)
theorem dX9_init_29 : decode cX9_init 29 = .ok (.bipush 9, 2) := dk_16 9 (dk_at dksX9_init_1 6 rfl rfl)
theorem dX9_init_31 : decode cX9_init 31 = .ok (.newarray .int, 2) := dk_188_10 (dk_at dksX9_init_1 8 rfl rfl)
theorem dX9_init_33 : decode cX9_init 33 = .ok (.putfield 22, 3) := dk_181 0 22 (dk_at dksX9_init_1 10 rfl rfl)
theorem dX9_init_36 : decode cX9_init 36 = .ok (.aload_n 0, 1) := dk_42 (dk_at dksX9_init_1 13 rfl rfl)
theorem dX9_init_37 : decode cX9_init 37 = .ok (.bipush 9, 2) := dk_16 9 (dk_at dksX9_init_1 14 rfl rfl)
theorem dX9_init_39 : decode cX9_init 39 = .ok (.newarray .int, 2) := dk_188_10 (dk_at dksX9_init_1 16 rfl rfl)
theorem dX9_init_41 : decode cX9_init 41 = .ok (.putfield 25, 3) := dk_181 0 25 (dk_at dksX9_init_1 18 rfl rfl)
theorem dX9_init_44 : decode cX9_init 44 = .ok (.aload_n 0, 1) := dk_42 (dk_at dksX9_init_1 21 rfl rfl)
theorem dX9_init_45 : decode cX9_init 45 = .ok (.bipush 9, 2) := dk_16 9 (dk_at dksX9_init_1 22 rfl rfl)
theorem dX9_init_47 : decode cX9_init 47 = .ok (.anewarray 9, 3) := dk_189 0 9 (dk_at dksX9_init_2 0 rfl rfl)
theorem dX9_init_50 : decode cX9_init 50 = .ok (.putfield 28, 3) := dk_181 0 28 (dk_at dksX9_init_2 3 rfl rfl)
theorem dX9_init_53 : decode cX9_init 53 = .ok (.return_, 1) := dk_177 (dk_at dksX9_init_2 6 rfl rfl)
abbrev cX9_begin : ByteArray := prog_6_method_2_code
def yX9_begin : MethodName := ⟨RX9, "begin", "(I)V"⟩
def dkwX9_begin_0 : List UInt8 := [42, 27, 181, 0, 32, 42, 3, 181, 0, 36, 42, 4, 181, 0, 39, 42, 2, 181, 0, 43, 177]
abbrev dktX9_begin_0 : List UInt8 := dkwX9_begin_0 ++ []
theorem dksX9_begin_0 : cX9_begin.data.toList.drop 0 = dktX9_begin_0 := by decide +kernel
theorem dX9_begin_0 : decode cX9_begin 0 = .ok (.aload_n 0, 1) := dk_42 (dk_at dksX9_begin_0 0 rfl rfl)
theorem dX9_begin_1 : decode cX9_begin 1 = .ok (.iload_n 1, 1) := dk_27 (dk_at dksX9_begin_0 1 rfl rfl)
theorem dX9_begin_2 : decode cX9_begin 2 = .ok (.putfield 32, 3) := dk_181 0 32 (dk_at dksX9_begin_0 2 rfl rfl)
theorem dX9_begin_5 : decode cX9_begin 5 = .ok (.aload_n 0, 1) := dk_42 (dk_at dksX9_begin_0 5 rfl rfl)
theorem dX9_begin_6 : decode cX9_begin 6 = .ok (.iconst 0, 1) := dk_3 (dk_at dksX9_begin_0 6 rfl rfl)
theorem dX9_begin_7 : decode cX9_begin 7 = .ok (.putfield 36, 3) := dk_181 0 36 (dk_at dksX9_begin_0 7 rfl rfl)
theorem dX9_begin_10 : decode cX9_begin 10 = .ok (.aload_n 0, 1) := dk_42 (dk_at dksX9_begin_0 10 rfl rfl)
theorem dX9_begin_11 : decode cX9_begin 11 = .ok (.iconst 1, 1) := dk_4 (dk_at dksX9_begin_0 11 rfl rfl)
theorem dX9_begin_12 : decode cX9_begin 12 = .ok (.putfield 39, 3) := dk_181 0 39 (dk_at dksX9_begin_0 12 rfl rfl)
theorem dX9_begin_15 : decode cX9_begin 15 = .ok (.aload_n 0, 1) := dk_42 (dk_at dksX9_begin_0 15 rfl rfl)
theorem dX9_begin_16 : decode cX9_begin 16 = .ok (.iconst (-1), 1) := dk_2 (dk_at dksX9_begin_0 16 rfl rfl)
theorem dX9_begin_17 : decode cX9_begin 17 = .ok (.putfield 43, 3) := dk_181 0 43 (dk_at dksX9_begin_0 17 rfl rfl)
theorem dX9_begin_20 : decode cX9_begin 20 = .ok (.return_, 1) := dk_177 (dk_at dksX9_begin_0 20 rfl rfl)
abbrev cX9_slot : ByteArray := prog_6_method_3_code
def yX9_slot : MethodName := ⟨RX9, "slot", "(JJ)I"⟩
def dkwX9_slot_1 : List UInt8 := [180, 0, 15, 21, 5, 47, 184, 0, 46, 153, 0, 9, 132, 5, 255, 167, 255, 226, 21, 5, 172]
abbrev dktX9_slot_1 : List UInt8 := dkwX9_slot_1 ++ []
def dkwX9_slot_0 : List UInt8 := [42, 180, 0, 36, 4, 100, 54, 5, 21, 5, 155, 0, 31, 31, 33, 42, 180, 0, 11, 21, 5, 47, 42]
abbrev dktX9_slot_0 : List UInt8 := dkwX9_slot_0 ++ dktX9_slot_1
theorem dksX9_slot_0 : cX9_slot.data.toList.drop 0 = dktX9_slot_0 := by decide +kernel
theorem dksX9_slot_1 : cX9_slot.data.toList.drop 23 = dktX9_slot_1 := dk_seg dksX9_slot_0 23 rfl rfl
theorem dX9_slot_0 : decode cX9_slot 0 = .ok (.aload_n 0, 1) := dk_42 (dk_at dksX9_slot_0 0 rfl rfl)
theorem dX9_slot_1 : decode cX9_slot 1 = .ok (.getfield 36, 3) := dk_180 0 36 (dk_at dksX9_slot_0 1 rfl rfl)
theorem dX9_slot_4 : decode cX9_slot 4 = .ok (.iconst 1, 1) := dk_4 (dk_at dksX9_slot_0 4 rfl rfl)
theorem dX9_slot_5 : decode cX9_slot 5 = .ok (.isub, 1) := dk_100 (dk_at dksX9_slot_0 5 rfl rfl)
theorem dX9_slot_6 : decode cX9_slot 6 = .ok (.istore 5, 2) := dk_54 5 (dk_at dksX9_slot_0 6 rfl rfl)
theorem dX9_slot_8 : decode cX9_slot 8 = .ok (.iload 5, 2) := dk_21 5 (dk_at dksX9_slot_0 8 rfl rfl)
theorem dX9_slot_10 : decode cX9_slot 10 = .ok (.ifCond .lt 31, 3) := dk_155 0 31 (dk_at dksX9_slot_0 10 rfl rfl)
theorem dX9_slot_13 : decode cX9_slot 13 = .ok (.lload_n 1, 1) := dk_31 (dk_at dksX9_slot_0 13 rfl rfl)
theorem dX9_slot_14 : decode cX9_slot 14 = .ok (.lload_n 3, 1) := dk_33 (dk_at dksX9_slot_0 14 rfl rfl)
theorem dX9_slot_15 : decode cX9_slot 15 = .ok (.aload_n 0, 1) := dk_42 (dk_at dksX9_slot_0 15 rfl rfl)
theorem dX9_slot_16 : decode cX9_slot 16 = .ok (.getfield 11, 3) := dk_180 0 11 (dk_at dksX9_slot_0 16 rfl rfl)
theorem dX9_slot_19 : decode cX9_slot 19 = .ok (.iload 5, 2) := dk_21 5 (dk_at dksX9_slot_0 19 rfl rfl)
theorem dX9_slot_21 : decode cX9_slot 21 = .ok (.laload, 1) := dk_47 (dk_at dksX9_slot_0 21 rfl rfl)
theorem dX9_slot_22 : decode cX9_slot 22 = .ok (.aload_n 0, 1) := dk_42 (dk_at dksX9_slot_0 22 rfl rfl)
theorem dX9_slot_23 : decode cX9_slot 23 = .ok (.getfield 15, 3) := dk_180 0 15 (dk_at dksX9_slot_1 0 rfl rfl)
theorem dX9_slot_26 : decode cX9_slot 26 = .ok (.iload 5, 2) := dk_21 5 (dk_at dksX9_slot_1 3 rfl rfl)
theorem dX9_slot_28 : decode cX9_slot 28 = .ok (.laload, 1) := dk_47 (dk_at dksX9_slot_1 5 rfl rfl)
theorem dX9_slot_29 : decode cX9_slot 29 = .ok (.invokestatic 46, 3) := dk_184 0 46 (dk_at dksX9_slot_1 6 rfl rfl)
theorem dX9_slot_32 : decode cX9_slot 32 = .ok (.ifCond .eq 9, 3) := dk_153 0 9 (dk_at dksX9_slot_1 9 rfl rfl)
theorem dX9_slot_35 : decode cX9_slot 35 = .ok (.iinc 5 (-1), 3) := dk_132 5 255 (dk_at dksX9_slot_1 12 rfl rfl)
theorem dX9_slot_38 : decode cX9_slot 38 = .ok (.goto (-30), 3) := dk_167 255 226 (dk_at dksX9_slot_1 15 rfl rfl)
theorem dX9_slot_41 : decode cX9_slot 41 = .ok (.iload 5, 2) := dk_21 5 (dk_at dksX9_slot_1 18 rfl rfl)
theorem dX9_slot_43 : decode cX9_slot 43 = .ok (.ireturn, 1) := dk_172 (dk_at dksX9_slot_1 20 rfl rfl)
abbrev cX9_isBefore : ByteArray := prog_6_method_4_code
def yX9_isBefore : MethodName := ⟨RX9, "isBefore", "(JJJJ)Z"⟩
def dkwX9_isBefore_1 : List UInt8 := [22, 6, 184, 0, 50, 156, 0, 7, 4, 167, 0, 4, 3, 172]
abbrev dktX9_isBefore_1 : List UInt8 := dkwX9_isBefore_1 ++ []
def dkwX9_isBefore_0 : List UInt8 := [30, 22, 4, 148, 153, 0, 18, 30, 22, 4, 148, 156, 0, 7, 4, 167, 0, 21, 3, 167, 0, 17, 32]
abbrev dktX9_isBefore_0 : List UInt8 := dkwX9_isBefore_0 ++ dktX9_isBefore_1
theorem dksX9_isBefore_0 : cX9_isBefore.data.toList.drop 0 = dktX9_isBefore_0 := by decide +kernel
theorem dksX9_isBefore_1 : cX9_isBefore.data.toList.drop 23 = dktX9_isBefore_1 := dk_seg dksX9_isBefore_0 23 rfl rfl
theorem dX9_isBefore_0 : decode cX9_isBefore 0 = .ok (.lload_n 0, 1) := dk_30 (dk_at dksX9_isBefore_0 0 rfl rfl)
theorem dX9_isBefore_1 : decode cX9_isBefore 1 = .ok (.lload 4, 2) := dk_22 4 (dk_at dksX9_isBefore_0 1 rfl rfl)
theorem dX9_isBefore_3 : decode cX9_isBefore 3 = .ok (.lcmp, 1) := dk_148 (dk_at dksX9_isBefore_0 3 rfl rfl)
theorem dX9_isBefore_4 : decode cX9_isBefore 4 = .ok (.ifCond .eq 18, 3) := dk_153 0 18 (dk_at dksX9_isBefore_0 4 rfl rfl)
theorem dX9_isBefore_7 : decode cX9_isBefore 7 = .ok (.lload_n 0, 1) := dk_30 (dk_at dksX9_isBefore_0 7 rfl rfl)
theorem dX9_isBefore_8 : decode cX9_isBefore 8 = .ok (.lload 4, 2) := dk_22 4 (dk_at dksX9_isBefore_0 8 rfl rfl)
theorem dX9_isBefore_10 : decode cX9_isBefore 10 = .ok (.lcmp, 1) := dk_148 (dk_at dksX9_isBefore_0 10 rfl rfl)
theorem dX9_isBefore_11 : decode cX9_isBefore 11 = .ok (.ifCond .ge 7, 3) := dk_156 0 7 (dk_at dksX9_isBefore_0 11 rfl rfl)
theorem dX9_isBefore_14 : decode cX9_isBefore 14 = .ok (.iconst 1, 1) := dk_4 (dk_at dksX9_isBefore_0 14 rfl rfl)
theorem dX9_isBefore_15 : decode cX9_isBefore 15 = .ok (.goto 21, 3) := dk_167 0 21 (dk_at dksX9_isBefore_0 15 rfl rfl)
theorem dX9_isBefore_18 : decode cX9_isBefore 18 = .ok (.iconst 0, 1) := dk_3 (dk_at dksX9_isBefore_0 18 rfl rfl)
theorem dX9_isBefore_19 : decode cX9_isBefore 19 = .ok (.goto 17, 3) := dk_167 0 17 (dk_at dksX9_isBefore_0 19 rfl rfl)
theorem dX9_isBefore_22 : decode cX9_isBefore 22 = .ok (.lload_n 2, 1) := dk_32 (dk_at dksX9_isBefore_0 22 rfl rfl)
theorem dX9_isBefore_23 : decode cX9_isBefore 23 = .ok (.lload 6, 2) := dk_22 6 (dk_at dksX9_isBefore_1 0 rfl rfl)
theorem dX9_isBefore_25 : decode cX9_isBefore 25 = .ok (.invokestatic 50, 3) := dk_184 0 50 (dk_at dksX9_isBefore_1 2 rfl rfl)
theorem dX9_isBefore_28 : decode cX9_isBefore 28 = .ok (.ifCond .ge 7, 3) := dk_156 0 7 (dk_at dksX9_isBefore_1 5 rfl rfl)
theorem dX9_isBefore_31 : decode cX9_isBefore 31 = .ok (.iconst 1, 1) := dk_4 (dk_at dksX9_isBefore_1 8 rfl rfl)
theorem dX9_isBefore_32 : decode cX9_isBefore 32 = .ok (.goto 4, 3) := dk_167 0 4 (dk_at dksX9_isBefore_1 9 rfl rfl)
theorem dX9_isBefore_35 : decode cX9_isBefore 35 = .ok (.iconst 0, 1) := dk_3 (dk_at dksX9_isBefore_1 12 rfl rfl)
theorem dX9_isBefore_36 : decode cX9_isBefore 36 = .ok (.ireturn, 1) := dk_172 (dk_at dksX9_isBefore_1 13 rfl rfl)
abbrev cX9_part : ByteArray := prog_6_method_5_code
def yX9_part : MethodName := ⟨RX9, "part", "(I)V"⟩
def dkwX9_part_1 : List UInt8 := [167, 255, 239, 42, 89, 180, 0, 36, 4, 96, 181, 0, 36, 177]
abbrev dktX9_part_1 : List UInt8 := dkwX9_part_1 ++ []
def dkwX9_part_0 : List UInt8 := [42, 180, 0, 36, 61, 28, 27, 164, 0, 18, 42, 28, 42, 28, 4, 100, 182, 0, 56, 132, 2, 255]
abbrev dktX9_part_0 : List UInt8 := dkwX9_part_0 ++ dktX9_part_1
theorem dksX9_part_0 : cX9_part.data.toList.drop 0 = dktX9_part_0 := by decide +kernel
theorem dksX9_part_1 : cX9_part.data.toList.drop 22 = dktX9_part_1 := dk_seg dksX9_part_0 22 rfl rfl
theorem dX9_part_0 : decode cX9_part 0 = .ok (.aload_n 0, 1) := dk_42 (dk_at dksX9_part_0 0 rfl rfl)
theorem dX9_part_1 : decode cX9_part 1 = .ok (.getfield 36, 3) := dk_180 0 36 (dk_at dksX9_part_0 1 rfl rfl)
theorem dX9_part_4 : decode cX9_part 4 = .ok (.istore_n 2, 1) := dk_61 (dk_at dksX9_part_0 4 rfl rfl)
theorem dX9_part_5 : decode cX9_part 5 = .ok (.iload_n 2, 1) := dk_28 (dk_at dksX9_part_0 5 rfl rfl)
theorem dX9_part_6 : decode cX9_part 6 = .ok (.iload_n 1, 1) := dk_27 (dk_at dksX9_part_0 6 rfl rfl)
theorem dX9_part_7 : decode cX9_part 7 = .ok (.if_icmp .le 18, 3) := dk_164 0 18 (dk_at dksX9_part_0 7 rfl rfl)
theorem dX9_part_10 : decode cX9_part 10 = .ok (.aload_n 0, 1) := dk_42 (dk_at dksX9_part_0 10 rfl rfl)
theorem dX9_part_11 : decode cX9_part 11 = .ok (.iload_n 2, 1) := dk_28 (dk_at dksX9_part_0 11 rfl rfl)
theorem dX9_part_12 : decode cX9_part 12 = .ok (.aload_n 0, 1) := dk_42 (dk_at dksX9_part_0 12 rfl rfl)
theorem dX9_part_13 : decode cX9_part 13 = .ok (.iload_n 2, 1) := dk_28 (dk_at dksX9_part_0 13 rfl rfl)
theorem dX9_part_14 : decode cX9_part 14 = .ok (.iconst 1, 1) := dk_4 (dk_at dksX9_part_0 14 rfl rfl)
theorem dX9_part_15 : decode cX9_part 15 = .ok (.isub, 1) := dk_100 (dk_at dksX9_part_0 15 rfl rfl)
theorem dX9_part_16 : decode cX9_part 16 = .ok (.invokevirtual 56, 3) := dk_182 0 56 (dk_at dksX9_part_0 16 rfl rfl)
theorem dX9_part_19 : decode cX9_part 19 = .ok (.iinc 2 (-1), 3) := dk_132 2 255 (dk_at dksX9_part_0 19 rfl rfl)
theorem dX9_part_22 : decode cX9_part 22 = .ok (.goto (-17), 3) := dk_167 255 239 (dk_at dksX9_part_1 0 rfl rfl)
theorem dX9_part_25 : decode cX9_part 25 = .ok (.aload_n 0, 1) := dk_42 (dk_at dksX9_part_1 3 rfl rfl)
theorem dX9_part_26 : decode cX9_part 26 = .ok (.dup, 1) := dk_89 (dk_at dksX9_part_1 4 rfl rfl)
theorem dX9_part_27 : decode cX9_part 27 = .ok (.getfield 36, 3) := dk_180 0 36 (dk_at dksX9_part_1 5 rfl rfl)
theorem dX9_part_30 : decode cX9_part 30 = .ok (.iconst 1, 1) := dk_4 (dk_at dksX9_part_1 8 rfl rfl)
theorem dX9_part_31 : decode cX9_part 31 = .ok (.iadd, 1) := dk_96 (dk_at dksX9_part_1 9 rfl rfl)
theorem dX9_part_32 : decode cX9_part 32 = .ok (.putfield 36, 3) := dk_181 0 36 (dk_at dksX9_part_1 10 rfl rfl)
theorem dX9_part_35 : decode cX9_part 35 = .ok (.return_, 1) := dk_177 (dk_at dksX9_part_1 13 rfl rfl)
abbrev cX9_take : ByteArray := prog_6_method_7_code
def yX9_take : MethodName := ⟨RX9, "take", "(ILNandHouse$Knot;I)V"⟩
def dkwX9_take_3 : List UInt8 := [177]
abbrev dktX9_take_3 : List UInt8 := dkwX9_take_3 ++ []
def dkwX9_take_2 : List UInt8 := [42, 180, 0, 25, 27, 44, 180, 0, 25, 29, 46, 79, 42, 180, 0, 28, 27, 44, 180, 0, 28, 29, 50, 83]
abbrev dktX9_take_2 : List UInt8 := dkwX9_take_2 ++ dktX9_take_3
def dkwX9_take_1 : List UInt8 := [42, 180, 0, 18, 27, 44, 180, 0, 18, 29, 46, 79, 42, 180, 0, 22, 27, 44, 180, 0, 22, 29, 46, 79]
abbrev dktX9_take_1 : List UInt8 := dkwX9_take_1 ++ dktX9_take_2
def dkwX9_take_0 : List UInt8 := [42, 180, 0, 11, 27, 44, 180, 0, 11, 29, 47, 80, 42, 180, 0, 15, 27, 44, 180, 0, 15, 29, 47, 80]
abbrev dktX9_take_0 : List UInt8 := dkwX9_take_0 ++ dktX9_take_1
theorem dksX9_take_0 : cX9_take.data.toList.drop 0 = dktX9_take_0 := by decide +kernel
theorem dksX9_take_1 : cX9_take.data.toList.drop 24 = dktX9_take_1 := dk_seg dksX9_take_0 24 rfl rfl
theorem dksX9_take_2 : cX9_take.data.toList.drop 48 = dktX9_take_2 := dk_seg dksX9_take_1 24 rfl rfl
theorem dksX9_take_3 : cX9_take.data.toList.drop 72 = dktX9_take_3 := dk_seg dksX9_take_2 24 rfl rfl
theorem dX9_take_0 : decode cX9_take 0 = .ok (.aload_n 0, 1) := dk_42 (dk_at dksX9_take_0 0 rfl rfl)
theorem dX9_take_1 : decode cX9_take 1 = .ok (.getfield 11, 3) := dk_180 0 11 (dk_at dksX9_take_0 1 rfl rfl)
theorem dX9_take_4 : decode cX9_take 4 = .ok (.iload_n 1, 1) := dk_27 (dk_at dksX9_take_0 4 rfl rfl)
theorem dX9_take_5 : decode cX9_take 5 = .ok (.aload_n 2, 1) := dk_44 (dk_at dksX9_take_0 5 rfl rfl)
theorem dX9_take_6 : decode cX9_take 6 = .ok (.getfield 11, 3) := dk_180 0 11 (dk_at dksX9_take_0 6 rfl rfl)
theorem dX9_take_9 : decode cX9_take 9 = .ok (.iload_n 3, 1) := dk_29 (dk_at dksX9_take_0 9 rfl rfl)
theorem dX9_take_10 : decode cX9_take 10 = .ok (.laload, 1) := dk_47 (dk_at dksX9_take_0 10 rfl rfl)
theorem dX9_take_11 : decode cX9_take 11 = .ok (.lastore, 1) := dk_80 (dk_at dksX9_take_0 11 rfl rfl)
theorem dX9_take_12 : decode cX9_take 12 = .ok (.aload_n 0, 1) := dk_42 (dk_at dksX9_take_0 12 rfl rfl)
theorem dX9_take_13 : decode cX9_take 13 = .ok (.getfield 15, 3) := dk_180 0 15 (dk_at dksX9_take_0 13 rfl rfl)
theorem dX9_take_16 : decode cX9_take 16 = .ok (.iload_n 1, 1) := dk_27 (dk_at dksX9_take_0 16 rfl rfl)
theorem dX9_take_17 : decode cX9_take 17 = .ok (.aload_n 2, 1) := dk_44 (dk_at dksX9_take_0 17 rfl rfl)
theorem dX9_take_18 : decode cX9_take 18 = .ok (.getfield 15, 3) := dk_180 0 15 (dk_at dksX9_take_0 18 rfl rfl)
theorem dX9_take_21 : decode cX9_take 21 = .ok (.iload_n 3, 1) := dk_29 (dk_at dksX9_take_0 21 rfl rfl)
theorem dX9_take_22 : decode cX9_take 22 = .ok (.laload, 1) := dk_47 (dk_at dksX9_take_0 22 rfl rfl)
theorem dX9_take_23 : decode cX9_take 23 = .ok (.lastore, 1) := dk_80 (dk_at dksX9_take_0 23 rfl rfl)
theorem dX9_take_24 : decode cX9_take 24 = .ok (.aload_n 0, 1) := dk_42 (dk_at dksX9_take_1 0 rfl rfl)
theorem dX9_take_25 : decode cX9_take 25 = .ok (.getfield 18, 3) := dk_180 0 18 (dk_at dksX9_take_1 1 rfl rfl)
theorem dX9_take_28 : decode cX9_take 28 = .ok (.iload_n 1, 1) := dk_27 (dk_at dksX9_take_1 4 rfl rfl)
theorem dX9_take_29 : decode cX9_take 29 = .ok (.aload_n 2, 1) := dk_44 (dk_at dksX9_take_1 5 rfl rfl)
theorem dX9_take_30 : decode cX9_take 30 = .ok (.getfield 18, 3) := dk_180 0 18 (dk_at dksX9_take_1 6 rfl rfl)
theorem dX9_take_33 : decode cX9_take 33 = .ok (.iload_n 3, 1) := dk_29 (dk_at dksX9_take_1 9 rfl rfl)
theorem dX9_take_34 : decode cX9_take 34 = .ok (.iaload, 1) := dk_46 (dk_at dksX9_take_1 10 rfl rfl)
theorem dX9_take_35 : decode cX9_take 35 = .ok (.iastore, 1) := dk_79 (dk_at dksX9_take_1 11 rfl rfl)
theorem dX9_take_36 : decode cX9_take 36 = .ok (.aload_n 0, 1) := dk_42 (dk_at dksX9_take_1 12 rfl rfl)
theorem dX9_take_37 : decode cX9_take 37 = .ok (.getfield 22, 3) := dk_180 0 22 (dk_at dksX9_take_1 13 rfl rfl)
theorem dX9_take_40 : decode cX9_take 40 = .ok (.iload_n 1, 1) := dk_27 (dk_at dksX9_take_1 16 rfl rfl)
theorem dX9_take_41 : decode cX9_take 41 = .ok (.aload_n 2, 1) := dk_44 (dk_at dksX9_take_1 17 rfl rfl)
theorem dX9_take_42 : decode cX9_take 42 = .ok (.getfield 22, 3) := dk_180 0 22 (dk_at dksX9_take_1 18 rfl rfl)
theorem dX9_take_45 : decode cX9_take 45 = .ok (.iload_n 3, 1) := dk_29 (dk_at dksX9_take_1 21 rfl rfl)
theorem dX9_take_46 : decode cX9_take 46 = .ok (.iaload, 1) := dk_46 (dk_at dksX9_take_1 22 rfl rfl)
theorem dX9_take_47 : decode cX9_take 47 = .ok (.iastore, 1) := dk_79 (dk_at dksX9_take_1 23 rfl rfl)
theorem dX9_take_48 : decode cX9_take 48 = .ok (.aload_n 0, 1) := dk_42 (dk_at dksX9_take_2 0 rfl rfl)
theorem dX9_take_49 : decode cX9_take 49 = .ok (.getfield 25, 3) := dk_180 0 25 (dk_at dksX9_take_2 1 rfl rfl)
theorem dX9_take_52 : decode cX9_take 52 = .ok (.iload_n 1, 1) := dk_27 (dk_at dksX9_take_2 4 rfl rfl)
theorem dX9_take_53 : decode cX9_take 53 = .ok (.aload_n 2, 1) := dk_44 (dk_at dksX9_take_2 5 rfl rfl)
theorem dX9_take_54 : decode cX9_take 54 = .ok (.getfield 25, 3) := dk_180 0 25 (dk_at dksX9_take_2 6 rfl rfl)
theorem dX9_take_57 : decode cX9_take 57 = .ok (.iload_n 3, 1) := dk_29 (dk_at dksX9_take_2 9 rfl rfl)
theorem dX9_take_58 : decode cX9_take 58 = .ok (.iaload, 1) := dk_46 (dk_at dksX9_take_2 10 rfl rfl)
theorem dX9_take_59 : decode cX9_take 59 = .ok (.iastore, 1) := dk_79 (dk_at dksX9_take_2 11 rfl rfl)
theorem dX9_take_60 : decode cX9_take 60 = .ok (.aload_n 0, 1) := dk_42 (dk_at dksX9_take_2 12 rfl rfl)
theorem dX9_take_61 : decode cX9_take 61 = .ok (.getfield 28, 3) := dk_180 0 28 (dk_at dksX9_take_2 13 rfl rfl)
theorem dX9_take_64 : decode cX9_take 64 = .ok (.iload_n 1, 1) := dk_27 (dk_at dksX9_take_2 16 rfl rfl)
theorem dX9_take_65 : decode cX9_take 65 = .ok (.aload_n 2, 1) := dk_44 (dk_at dksX9_take_2 17 rfl rfl)
theorem dX9_take_66 : decode cX9_take 66 = .ok (.getfield 28, 3) := dk_180 0 28 (dk_at dksX9_take_2 18 rfl rfl)
theorem dX9_take_69 : decode cX9_take 69 = .ok (.iload_n 3, 1) := dk_29 (dk_at dksX9_take_2 21 rfl rfl)
theorem dX9_take_70 : decode cX9_take 70 = .ok (.aaload, 1) := dk_50 (dk_at dksX9_take_2 22 rfl rfl)
theorem dX9_take_71 : decode cX9_take 71 = .ok (.aastore, 1) := dk_83 (dk_at dksX9_take_2 23 rfl rfl)
theorem dX9_take_72 : decode cX9_take 72 = .ok (.return_, 1) := dk_177 (dk_at dksX9_take_3 0 rfl rfl)
abbrev cX9_set : ByteArray := prog_6_method_8_code
def yX9_set : MethodName := ⟨RX9, "set", "(IJJLNandHouse$Knot;)V"⟩
def dkwX9_set_0 : List UInt8 := [42, 180, 0, 11, 27, 32, 80, 42, 180, 0, 15, 27, 22, 4, 80, 42, 180, 0, 28, 27, 25, 6, 83, 177]
abbrev dktX9_set_0 : List UInt8 := dkwX9_set_0 ++ []
theorem dksX9_set_0 : cX9_set.data.toList.drop 0 = dktX9_set_0 := by decide +kernel
theorem dX9_set_0 : decode cX9_set 0 = .ok (.aload_n 0, 1) := dk_42 (dk_at dksX9_set_0 0 rfl rfl)
theorem dX9_set_1 : decode cX9_set 1 = .ok (.getfield 11, 3) := dk_180 0 11 (dk_at dksX9_set_0 1 rfl rfl)
theorem dX9_set_4 : decode cX9_set 4 = .ok (.iload_n 1, 1) := dk_27 (dk_at dksX9_set_0 4 rfl rfl)
theorem dX9_set_5 : decode cX9_set 5 = .ok (.lload_n 2, 1) := dk_32 (dk_at dksX9_set_0 5 rfl rfl)
theorem dX9_set_6 : decode cX9_set 6 = .ok (.lastore, 1) := dk_80 (dk_at dksX9_set_0 6 rfl rfl)
theorem dX9_set_7 : decode cX9_set 7 = .ok (.aload_n 0, 1) := dk_42 (dk_at dksX9_set_0 7 rfl rfl)
theorem dX9_set_8 : decode cX9_set 8 = .ok (.getfield 15, 3) := dk_180 0 15 (dk_at dksX9_set_0 8 rfl rfl)
theorem dX9_set_11 : decode cX9_set 11 = .ok (.iload_n 1, 1) := dk_27 (dk_at dksX9_set_0 11 rfl rfl)
theorem dX9_set_12 : decode cX9_set 12 = .ok (.lload 4, 2) := dk_22 4 (dk_at dksX9_set_0 12 rfl rfl)
theorem dX9_set_14 : decode cX9_set 14 = .ok (.lastore, 1) := dk_80 (dk_at dksX9_set_0 14 rfl rfl)
theorem dX9_set_15 : decode cX9_set 15 = .ok (.aload_n 0, 1) := dk_42 (dk_at dksX9_set_0 15 rfl rfl)
theorem dX9_set_16 : decode cX9_set 16 = .ok (.getfield 28, 3) := dk_180 0 28 (dk_at dksX9_set_0 16 rfl rfl)
theorem dX9_set_19 : decode cX9_set 19 = .ok (.iload_n 1, 1) := dk_27 (dk_at dksX9_set_0 19 rfl rfl)
theorem dX9_set_20 : decode cX9_set 20 = .ok (.aload 6, 2) := dk_25 6 (dk_at dksX9_set_0 20 rfl rfl)
theorem dX9_set_22 : decode cX9_set 22 = .ok (.aastore, 1) := dk_83 (dk_at dksX9_set_0 22 rfl rfl)
theorem dX9_set_23 : decode cX9_set 23 = .ok (.return_, 1) := dk_177 (dk_at dksX9_set_0 23 rfl rfl)
abbrev cX9_leave : ByteArray := prog_6_method_6_code
def yX9_leave : MethodName := ⟨RX9, "leave", "(I)V"⟩
def dkwX9_leave_1 : List UInt8 := [167, 255, 234, 42, 89, 180, 0, 36, 4, 100, 181, 0, 36, 42, 180, 0, 28, 42, 180, 0, 36, 1, 83, 177]
abbrev dktX9_leave_1 : List UInt8 := dkwX9_leave_1 ++ []
def dkwX9_leave_0 : List UInt8 := [27, 61, 28, 4, 96, 42, 180, 0, 36, 162, 0, 18, 42, 28, 42, 28, 4, 96, 182, 0, 56, 132, 2, 1]
abbrev dktX9_leave_0 : List UInt8 := dkwX9_leave_0 ++ dktX9_leave_1
theorem dksX9_leave_0 : cX9_leave.data.toList.drop 0 = dktX9_leave_0 := by decide +kernel
theorem dksX9_leave_1 : cX9_leave.data.toList.drop 24 = dktX9_leave_1 := dk_seg dksX9_leave_0 24 rfl rfl
theorem dX9_leave_0 : decode cX9_leave 0 = .ok (.iload_n 1, 1) := dk_27 (dk_at dksX9_leave_0 0 rfl rfl)
theorem dX9_leave_1 : decode cX9_leave 1 = .ok (.istore_n 2, 1) := dk_61 (dk_at dksX9_leave_0 1 rfl rfl)
theorem dX9_leave_2 : decode cX9_leave 2 = .ok (.iload_n 2, 1) := dk_28 (dk_at dksX9_leave_0 2 rfl rfl)
theorem dX9_leave_3 : decode cX9_leave 3 = .ok (.iconst 1, 1) := dk_4 (dk_at dksX9_leave_0 3 rfl rfl)
theorem dX9_leave_4 : decode cX9_leave 4 = .ok (.iadd, 1) := dk_96 (dk_at dksX9_leave_0 4 rfl rfl)
theorem dX9_leave_5 : decode cX9_leave 5 = .ok (.aload_n 0, 1) := dk_42 (dk_at dksX9_leave_0 5 rfl rfl)
theorem dX9_leave_6 : decode cX9_leave 6 = .ok (.getfield 36, 3) := dk_180 0 36 (dk_at dksX9_leave_0 6 rfl rfl)
theorem dX9_leave_9 : decode cX9_leave 9 = .ok (.if_icmp .ge 18, 3) := dk_162 0 18 (dk_at dksX9_leave_0 9 rfl rfl)
theorem dX9_leave_12 : decode cX9_leave 12 = .ok (.aload_n 0, 1) := dk_42 (dk_at dksX9_leave_0 12 rfl rfl)
theorem dX9_leave_13 : decode cX9_leave 13 = .ok (.iload_n 2, 1) := dk_28 (dk_at dksX9_leave_0 13 rfl rfl)
theorem dX9_leave_14 : decode cX9_leave 14 = .ok (.aload_n 0, 1) := dk_42 (dk_at dksX9_leave_0 14 rfl rfl)
theorem dX9_leave_15 : decode cX9_leave 15 = .ok (.iload_n 2, 1) := dk_28 (dk_at dksX9_leave_0 15 rfl rfl)
theorem dX9_leave_16 : decode cX9_leave 16 = .ok (.iconst 1, 1) := dk_4 (dk_at dksX9_leave_0 16 rfl rfl)
theorem dX9_leave_17 : decode cX9_leave 17 = .ok (.iadd, 1) := dk_96 (dk_at dksX9_leave_0 17 rfl rfl)
theorem dX9_leave_18 : decode cX9_leave 18 = .ok (.invokevirtual 56, 3) := dk_182 0 56 (dk_at dksX9_leave_0 18 rfl rfl)
theorem dX9_leave_21 : decode cX9_leave 21 = .ok (.iinc 2 1, 3) := dk_132 2 1 (dk_at dksX9_leave_0 21 rfl rfl)
theorem dX9_leave_24 : decode cX9_leave 24 = .ok (.goto (-22), 3) := dk_167 255 234 (dk_at dksX9_leave_1 0 rfl rfl)
theorem dX9_leave_27 : decode cX9_leave 27 = .ok (.aload_n 0, 1) := dk_42 (dk_at dksX9_leave_1 3 rfl rfl)
theorem dX9_leave_28 : decode cX9_leave 28 = .ok (.dup, 1) := dk_89 (dk_at dksX9_leave_1 4 rfl rfl)
theorem dX9_leave_29 : decode cX9_leave 29 = .ok (.getfield 36, 3) := dk_180 0 36 (dk_at dksX9_leave_1 5 rfl rfl)
theorem dX9_leave_32 : decode cX9_leave 32 = .ok (.iconst 1, 1) := dk_4 (dk_at dksX9_leave_1 8 rfl rfl)
theorem dX9_leave_33 : decode cX9_leave 33 = .ok (.isub, 1) := dk_100 (dk_at dksX9_leave_1 9 rfl rfl)
theorem dX9_leave_34 : decode cX9_leave 34 = .ok (.putfield 36, 3) := dk_181 0 36 (dk_at dksX9_leave_1 10 rfl rfl)
theorem dX9_leave_37 : decode cX9_leave 37 = .ok (.aload_n 0, 1) := dk_42 (dk_at dksX9_leave_1 13 rfl rfl)
theorem dX9_leave_38 : decode cX9_leave 38 = .ok (.getfield 28, 3) := dk_180 0 28 (dk_at dksX9_leave_1 14 rfl rfl)
theorem dX9_leave_41 : decode cX9_leave 41 = .ok (.aload_n 0, 1) := dk_42 (dk_at dksX9_leave_1 17 rfl rfl)
theorem dX9_leave_42 : decode cX9_leave 42 = .ok (.getfield 36, 3) := dk_180 0 36 (dk_at dksX9_leave_1 18 rfl rfl)
theorem dX9_leave_45 : decode cX9_leave 45 = .ok (.aconst_null, 1) := dk_1 (dk_at dksX9_leave_1 21 rfl rfl)
theorem dX9_leave_46 : decode cX9_leave 46 = .ok (.aastore, 1) := dk_83 (dk_at dksX9_leave_1 22 rfl rfl)
theorem dX9_leave_47 : decode cX9_leave 47 = .ok (.return_, 1) := dk_177 (dk_at dksX9_leave_1 23 rfl rfl)
theorem q140 : (Jvm.Cond.initialized "NandHouse$Knot") ∈ lw_all := lw_g (lw_at lw_m1 10 rfl) rfl
theorem q377 : (Jvm.Cond.instantiable "NandHouse$Knot" (12 : Nat)) ∈ lw_all := lw_g (lw_at lw_m2 7 rfl) rfl
theorem q379 : (Jvm.Cond.instanceMethod ({ cls := "NandHouse$Knot", name := "<init>", desc := "()V" } : Jvm.MethodName)) ∈ lw_all := lw_g (lw_at lw_m2 9 rfl) rfl
theorem q380 : (Jvm.Cond.code ({ cls := "NandHouse$Knot", name := "<init>", desc := "()V" } : Jvm.MethodName) prog_6_method_1_code (1 : Nat) (Option.none : Option Jvm.ClassFile.FieldType)) ∈ lw_all := lw_g (lw_at lw_m2 10 rfl) rfl
theorem q381 : (Jvm.Cond.methodLink "NandHouse$Knot" (3 : Nat) ({ cls := "java/lang/Object", name := "<init>", desc := "()V" } : Jvm.MethodName)) ∈ lw_all := lw_g (lw_at lw_m2 11 rfl) rfl
theorem q382 : (Jvm.Cond.classLink "NandHouse$Knot" (9 : Nat) "NandHouse$Knot") ∈ lw_all := lw_g (lw_at lw_m2 12 rfl) rfl
theorem q383 : (Jvm.Cond.fieldLink "NandHouse$Knot" (32 : Nat) "NandHouse$Knot" "level" "I") ∈ lw_all := lw_g (lw_at lw_m2 13 rfl) rfl
theorem q386 : (Jvm.Cond.fieldLink "NandHouse$Knot" (36 : Nat) "NandHouse$Knot" "count" "I") ∈ lw_all := lw_g (lw_at lw_m2 16 rfl) rfl
theorem q389 : (Jvm.Cond.fieldLink "NandHouse$Knot" (11 : Nat) "NandHouse$Knot" "high" "[J") ∈ lw_all := lw_g (lw_at lw_m2 19 rfl) rfl
theorem q392 : (Jvm.Cond.fieldLink "NandHouse$Knot" (15 : Nat) "NandHouse$Knot" "low" "[J") ∈ lw_all := lw_g (lw_at lw_m2 22 rfl) rfl
theorem q395 : (Jvm.Cond.fieldLink "NandHouse$Knot" (18 : Nat) "NandHouse$Knot" "number" "[I") ∈ lw_all := lw_g (lw_at lw_m2 25 rfl) rfl
theorem q398 : (Jvm.Cond.fieldLink "NandHouse$Knot" (22 : Nat) "NandHouse$Knot" "place" "[I") ∈ lw_all := lw_g (lw_at lw_m2 28 rfl) rfl
theorem q401 : (Jvm.Cond.fieldLink "NandHouse$Knot" (25 : Nat) "NandHouse$Knot" "size" "[I") ∈ lw_all := lw_g (lw_at lw_m2 31 rfl) rfl
theorem q404 : (Jvm.Cond.fieldLink "NandHouse$Knot" (28 : Nat) "NandHouse$Knot" "below" "[LNandHouse$Knot;") ∈ lw_all := lw_g (lw_at lw_m2 34 rfl) rfl
theorem q407 : (Jvm.Cond.fieldLink "NandHouse$Knot" (39 : Nat) "NandHouse$Knot" "fresh" "Z") ∈ lw_all := lw_g (lw_at lw_m2 37 rfl) rfl
theorem q410 : (Jvm.Cond.fieldLink "NandHouse$Knot" (43 : Nat) "NandHouse$Knot" "ownNumber" "I") ∈ lw_all := lw_g (lw_at lw_m2 40 rfl) rfl
theorem q417 : (Jvm.Cond.lays "NandHouse$Knot" "NandHouse$Knot" "level" "I") ∈ lw_all := lw_g (lw_at lw_m2 47 rfl) rfl
theorem q418 : (Jvm.Cond.soleField "NandHouse$Knot" "level") ∈ lw_all := lw_g (lw_at lw_m2 48 rfl) rfl
theorem q419 : (Jvm.Cond.lays "NandHouse$Knot" "NandHouse$Knot" "count" "I") ∈ lw_all := lw_g (lw_at lw_m2 49 rfl) rfl
theorem q420 : (Jvm.Cond.soleField "NandHouse$Knot" "count") ∈ lw_all := lw_g (lw_at lw_m2 50 rfl) rfl
theorem q421 : (Jvm.Cond.laysFinal "NandHouse$Knot" "NandHouse$Knot" "high" "[J") ∈ lw_all := lw_g (lw_at lw_m2 51 rfl) rfl
theorem q422 : (Jvm.Cond.soleField "NandHouse$Knot" "high") ∈ lw_all := lw_g (lw_at lw_m2 52 rfl) rfl
theorem q423 : (Jvm.Cond.laysFinal "NandHouse$Knot" "NandHouse$Knot" "low" "[J") ∈ lw_all := lw_g (lw_at lw_m2 53 rfl) rfl
theorem q424 : (Jvm.Cond.soleField "NandHouse$Knot" "low") ∈ lw_all := lw_g (lw_at lw_m2 54 rfl) rfl
theorem q425 : (Jvm.Cond.laysFinal "NandHouse$Knot" "NandHouse$Knot" "number" "[I") ∈ lw_all := lw_g (lw_at lw_m2 55 rfl) rfl
theorem q426 : (Jvm.Cond.soleField "NandHouse$Knot" "number") ∈ lw_all := lw_g (lw_at lw_m2 56 rfl) rfl
theorem q427 : (Jvm.Cond.laysFinal "NandHouse$Knot" "NandHouse$Knot" "place" "[I") ∈ lw_all := lw_g (lw_at lw_m2 57 rfl) rfl
theorem q428 : (Jvm.Cond.soleField "NandHouse$Knot" "place") ∈ lw_all := lw_g (lw_at lw_m2 58 rfl) rfl
theorem q429 : (Jvm.Cond.laysFinal "NandHouse$Knot" "NandHouse$Knot" "size" "[I") ∈ lw_all := lw_g (lw_at lw_m2 59 rfl) rfl
theorem q430 : (Jvm.Cond.soleField "NandHouse$Knot" "size") ∈ lw_all := lw_g (lw_at lw_m2 60 rfl) rfl
theorem q431 : (Jvm.Cond.laysFinal "NandHouse$Knot" "NandHouse$Knot" "below" "[LNandHouse$Knot;") ∈ lw_all := lw_g (lw_at lw_m2 61 rfl) rfl
theorem q432 : (Jvm.Cond.soleField "NandHouse$Knot" "below") ∈ lw_all := lw_g (lw_at lw_m2 62 rfl) rfl
theorem q433 : (Jvm.Cond.lays "NandHouse$Knot" "NandHouse$Knot" "fresh" "Z") ∈ lw_all := lw_g (lw_at lw_m2 63 rfl) rfl
theorem q434 : (Jvm.Cond.soleField "NandHouse$Knot" "fresh") ∈ lw_all := lw_g (lw_at lw_m2 64 rfl) rfl
theorem q435 : (Jvm.Cond.lays "NandHouse$Knot" "NandHouse$Knot" "ownNumber" "I") ∈ lw_all := lw_g (lw_at lw_m2 65 rfl) rfl
theorem q436 : (Jvm.Cond.soleField "NandHouse$Knot" "ownNumber") ∈ lw_all := lw_g (lw_at lw_m2 66 rfl) rfl
theorem q437 : (Jvm.Cond.lays "NandHouse$Knot" "NandHouse$Knot" "ownPlace" "I") ∈ lw_all := lw_g (lw_at lw_m2 67 rfl) rfl
theorem q438 : (Jvm.Cond.soleField "NandHouse$Knot" "ownPlace") ∈ lw_all := lw_g (lw_at lw_m2 68 rfl) rfl
theorem q439 : (Jvm.Cond.lays "NandHouse$Knot" "NandHouse$Knot" "ownSize" "I") ∈ lw_all := lw_g (lw_at lw_m2 69 rfl) rfl
theorem q440 : (Jvm.Cond.soleField "NandHouse$Knot" "ownSize") ∈ lw_all := lw_g (lw_at lw_m2 70 rfl) rfl
theorem q441 : (Jvm.Cond.superclass "NandHouse$Knot" "java/lang/Object") ∈ lw_all := lw_g (lw_at lw_m2 71 rfl) rfl
theorem q733 : (Jvm.Cond.instanceMethod ({ cls := "NandHouse$Knot", name := "begin", desc := "(I)V" } : Jvm.MethodName)) ∈ lw_all := lw_g (lw_at lw_m3 123 rfl) rfl
theorem q734 : (Jvm.Cond.selects "NandHouse$Knot" ({ cls := "NandHouse$Knot", name := "begin", desc := "(I)V" } : Jvm.MethodName) ({ cls := "NandHouse$Knot", name := "begin", desc := "(I)V" } : Jvm.MethodName)) ∈ lw_all := lw_g (lw_at lw_m3 124 rfl) rfl
theorem q735 : (Jvm.Cond.code ({ cls := "NandHouse$Knot", name := "begin", desc := "(I)V" } : Jvm.MethodName) prog_6_method_2_code (2 : Nat) (Option.none : Option Jvm.ClassFile.FieldType)) ∈ lw_all := lw_g (lw_at lw_m3 125 rfl) rfl
theorem q910 : (Jvm.Cond.instanceMethod ({ cls := "NandHouse$Knot", name := "slot", desc := "(JJ)I" } : Jvm.MethodName)) ∈ lw_all := lw_g (lw_at lw_m4 60 rfl) rfl
theorem q911 : (Jvm.Cond.selects "NandHouse$Knot" ({ cls := "NandHouse$Knot", name := "slot", desc := "(JJ)I" } : Jvm.MethodName) ({ cls := "NandHouse$Knot", name := "slot", desc := "(JJ)I" } : Jvm.MethodName)) ∈ lw_all := lw_g (lw_at lw_m4 61 rfl) rfl
theorem q912 : (Jvm.Cond.code ({ cls := "NandHouse$Knot", name := "slot", desc := "(JJ)I" } : Jvm.MethodName) prog_6_method_3_code (6 : Nat) (Option.some Jvm.ClassFile.FieldType.int)) ∈ lw_all := lw_g (lw_at lw_m4 62 rfl) rfl
theorem q913 : (Jvm.Cond.methodLink "NandHouse$Knot" (46 : Nat) ({ cls := "NandHouse$Knot", name := "isBefore", desc := "(JJJJ)Z" } : Jvm.MethodName)) ∈ lw_all := lw_g (lw_at lw_m4 63 rfl) rfl
theorem q914 : (Jvm.Cond.static ({ cls := "NandHouse$Knot", name := "isBefore", desc := "(JJJJ)Z" } : Jvm.MethodName)) ∈ lw_all := lw_g (lw_at lw_m4 64 rfl) rfl
theorem q915 : (Jvm.Cond.code ({ cls := "NandHouse$Knot", name := "isBefore", desc := "(JJJJ)Z" } : Jvm.MethodName) prog_6_method_4_code (8 : Nat) (Option.some Jvm.ClassFile.FieldType.boolean)) ∈ lw_all := lw_g (lw_at lw_m4 65 rfl) rfl
theorem q916 : (Jvm.Cond.methodLink "NandHouse$Knot" (50 : Nat) ({ cls := "java/lang/Long", name := "compareUnsigned", desc := "(JJ)I" } : Jvm.MethodName)) ∈ lw_all := lw_g (lw_at lw_m4 66 rfl) rfl
theorem q939 : (Jvm.Cond.instanceMethod ({ cls := "NandHouse$Knot", name := "part", desc := "(I)V" } : Jvm.MethodName)) ∈ lw_all := lw_g (lw_at lw_m4 89 rfl) rfl
theorem q940 : (Jvm.Cond.selects "NandHouse$Knot" ({ cls := "NandHouse$Knot", name := "part", desc := "(I)V" } : Jvm.MethodName) ({ cls := "NandHouse$Knot", name := "part", desc := "(I)V" } : Jvm.MethodName)) ∈ lw_all := lw_g (lw_at lw_m4 90 rfl) rfl
theorem q941 : (Jvm.Cond.code ({ cls := "NandHouse$Knot", name := "part", desc := "(I)V" } : Jvm.MethodName) prog_6_method_5_code (3 : Nat) (Option.none : Option Jvm.ClassFile.FieldType)) ∈ lw_all := lw_g (lw_at lw_m4 91 rfl) rfl
theorem q942 : (Jvm.Cond.methodLink "NandHouse$Knot" (56 : Nat) ({ cls := "NandHouse$Knot", name := "take", desc := "(ILNandHouse$Knot;I)V" } : Jvm.MethodName)) ∈ lw_all := lw_g (lw_at lw_m4 92 rfl) rfl
theorem q943 : (Jvm.Cond.instanceMethod ({ cls := "NandHouse$Knot", name := "take", desc := "(ILNandHouse$Knot;I)V" } : Jvm.MethodName)) ∈ lw_all := lw_g (lw_at lw_m4 93 rfl) rfl
theorem q944 : (Jvm.Cond.selects "NandHouse$Knot" ({ cls := "NandHouse$Knot", name := "take", desc := "(ILNandHouse$Knot;I)V" } : Jvm.MethodName) ({ cls := "NandHouse$Knot", name := "take", desc := "(ILNandHouse$Knot;I)V" } : Jvm.MethodName)) ∈ lw_all := lw_g (lw_at lw_m4 94 rfl) rfl
theorem q945 : (Jvm.Cond.code ({ cls := "NandHouse$Knot", name := "take", desc := "(ILNandHouse$Knot;I)V" } : Jvm.MethodName) prog_6_method_7_code (4 : Nat) (Option.none : Option Jvm.ClassFile.FieldType)) ∈ lw_all := lw_g (lw_at lw_m4 95 rfl) rfl
theorem q947 : (Jvm.Cond.instanceMethod ({ cls := "NandHouse$Knot", name := "set", desc := "(IJJLNandHouse$Knot;)V" } : Jvm.MethodName)) ∈ lw_all := lw_g (lw_at lw_m4 97 rfl) rfl
theorem q948 : (Jvm.Cond.selects "NandHouse$Knot" ({ cls := "NandHouse$Knot", name := "set", desc := "(IJJLNandHouse$Knot;)V" } : Jvm.MethodName) ({ cls := "NandHouse$Knot", name := "set", desc := "(IJJLNandHouse$Knot;)V" } : Jvm.MethodName)) ∈ lw_all := lw_g (lw_at lw_m4 98 rfl) rfl
theorem q949 : (Jvm.Cond.code ({ cls := "NandHouse$Knot", name := "set", desc := "(IJJLNandHouse$Knot;)V" } : Jvm.MethodName) prog_6_method_8_code (7 : Nat) (Option.none : Option Jvm.ClassFile.FieldType)) ∈ lw_all := lw_g (lw_at lw_m4 99 rfl) rfl
theorem q1369 : (Jvm.Cond.instanceMethod ({ cls := "NandHouse$Knot", name := "leave", desc := "(I)V" } : Jvm.MethodName)) ∈ lw_all := lw_g (lw_at lw_m6 39 rfl) rfl
theorem q1370 : (Jvm.Cond.selects "NandHouse$Knot" ({ cls := "NandHouse$Knot", name := "leave", desc := "(I)V" } : Jvm.MethodName) ({ cls := "NandHouse$Knot", name := "leave", desc := "(I)V" } : Jvm.MethodName)) ∈ lw_all := lw_g (lw_at lw_m6 40 rfl) rfl
theorem q1371 : (Jvm.Cond.code ({ cls := "NandHouse$Knot", name := "leave", desc := "(I)V" } : Jvm.MethodName) prog_6_method_6_code (3 : Nat) (Option.none : Option Jvm.ClassFile.FieldType)) ∈ lw_all := lw_g (lw_at lw_m6 41 rfl) rfl
theorem in_X9 : ∀ w ∈ wsX90, w ∈ lw_all := lw_in wsX90 [417, 419, 421, 423, 425, 427, 429, 431, 433, 435, 437, 439] (by decide +kernel) (by decide +kernel)
/-! NandHouse$Writer -/
set_option maxRecDepth 100000
def RX10 : String := "NandHouse$Writer"
def TX10 : u_T := fun k => match k with
  | 0 => ("NandHouse$Writer", "blocks", "LNandHouse$Blocks;", true)
  | 1 => ("NandHouse$Writer", "space", "LNandHouse$Space;", true)
  | 2 => ("NandHouse$Writer", "buffer", "[B", true)
  | 3 => ("NandHouse$Writer", "number", "I", false)
  | _ => ("NandHouse$Writer", "place", "I", false)
def tyX10 : Nat → FieldType := fun k => match k with
  | 0 => .object "NandHouse$Blocks"
  | 1 => .object "NandHouse$Space"
  | 2 => .array .byte
  | 3 => .int
  | _ => .int
abbrev wsX100 : List Cond := u_ws RX10 TX10 5
theorem nmX10 : ∀ a, a < 5 → ∀ b, b < 5 → a ≠ b → (TX10 a).2.1 ≠ (TX10 b).2.1 := by decide +kernel
theorem tyX10_ok : ∀ k, k < 5 → parseFieldDescriptor (TX10 k).2.2.1 = some (tyX10 k) := by decide +kernel
abbrev cX10_init : ByteArray := prog_10_method_1_code
def yX10_init : MethodName := ⟨RX10, "<init>", "(LNandHouse$Blocks;LNandHouse$Space;)V"⟩
def dkwX10_init_1 : List UInt8 := [44, 181, 0, 23, 177]
abbrev dktX10_init_1 : List UInt8 := dkwX10_init_1 ++ []
def dkwX10_init_0 : List UInt8 := [42, 183, 0, 3, 42, 17, 0, 128, 188, 8, 181, 0, 9, 42, 2, 181, 0, 15, 42, 43, 181, 0, 19, 42]
abbrev dktX10_init_0 : List UInt8 := dkwX10_init_0 ++ dktX10_init_1
theorem dksX10_init_0 : cX10_init.data.toList.drop 0 = dktX10_init_0 := by decide +kernel
theorem dksX10_init_1 : cX10_init.data.toList.drop 24 = dktX10_init_1 := dk_seg dksX10_init_0 24 rfl rfl
theorem dX10_init_0 : decode cX10_init 0 = .ok (.aload_n 0, 1) := dk_42 (dk_at dksX10_init_0 0 rfl rfl)
theorem dX10_init_1 : decode cX10_init 1 = .ok (.invokespecial 3, 3) := dk_183 0 3 (dk_at dksX10_init_0 1 rfl rfl)
theorem dX10_init_4 : decode cX10_init 4 = .ok (.aload_n 0, 1) := dk_42 (dk_at dksX10_init_0 4 rfl rfl)
theorem dX10_init_5 : decode cX10_init 5 = .ok (.sipush 128, 3) := dk_17 0 128 (dk_at dksX10_init_0 5 rfl rfl)
theorem dX10_init_8 : decode cX10_init 8 = .ok (.newarray .byte, 2) := dk_188_8 (dk_at dksX10_init_0 8 rfl rfl)
theorem dX10_init_10 : decode cX10_init 10 = .ok (.putfield 9, 3) := dk_181 0 9 (dk_at dksX10_init_0 10 rfl rfl)
theorem dX10_init_13 : decode cX10_init 13 = .ok (.aload_n 0, 1) := dk_42 (dk_at dksX10_init_0 13 rfl rfl)
theorem dX10_init_14 : decode cX10_init 14 = .ok (.iconst (-1), 1) := dk_2 (dk_at dksX10_init_0 14 rfl rfl)
theorem dX10_init_15 : decode cX10_init 15 = .ok (.putfield 15, 3) := dk_181 0 15 (dk_at dksX10_init_0 15 rfl rfl)
theorem dX10_init_18 : decode cX10_init 18 = .ok (.aload_n 0, 1) := dk_42 (dk_at dksX10_init_0 18 rfl rfl)
theorem dX10_init_19 : decode cX10_init 19 = .ok (.aload_n 1, 1) := dk_43 (dk_at dksX10_init_0 19 rfl rfl)
theorem dX10_init_20 : decode cX10_init 20 = .ok (.putfield 19, 3) := dk_181 0 19 (dk_at dksX10_init_0 20 rfl rfl)
theorem dX10_init_23 : decode cX10_init 23 = .ok (.aload_n 0, 1) := dk_42 (dk_at dksX10_init_0 23 rfl rfl)
theorem dX10_init_24 : decode cX10_init 24 = .ok (.aload_n 2, 1) := dk_44 (dk_at dksX10_init_1 0 rfl rfl)
theorem dX10_init_25 : decode cX10_init 25 = .ok (.putfield 23, 3) := dk_181 0 23 (dk_at dksX10_init_1 1 rfl rfl)
theorem dX10_init_28 : decode cX10_init 28 = .ok (.return_, 1) := dk_177 (dk_at dksX10_init_1 4 rfl rfl)
abbrev cX10_open : ByteArray := prog_10_method_2_code
def yX10_open : MethodName := ⟨RX10, "open", "(I)V"⟩
def dkwX10_open_0 : List UInt8 := [42, 27, 181, 0, 15, 42, 3, 181, 0, 27, 177]
abbrev dktX10_open_0 : List UInt8 := dkwX10_open_0 ++ []
theorem dksX10_open_0 : cX10_open.data.toList.drop 0 = dktX10_open_0 := by decide +kernel
theorem dX10_open_0 : decode cX10_open 0 = .ok (.aload_n 0, 1) := dk_42 (dk_at dksX10_open_0 0 rfl rfl)
theorem dX10_open_1 : decode cX10_open 1 = .ok (.iload_n 1, 1) := dk_27 (dk_at dksX10_open_0 1 rfl rfl)
theorem dX10_open_2 : decode cX10_open 2 = .ok (.putfield 15, 3) := dk_181 0 15 (dk_at dksX10_open_0 2 rfl rfl)
theorem dX10_open_5 : decode cX10_open 5 = .ok (.aload_n 0, 1) := dk_42 (dk_at dksX10_open_0 5 rfl rfl)
theorem dX10_open_6 : decode cX10_open 6 = .ok (.iconst 0, 1) := dk_3 (dk_at dksX10_open_0 6 rfl rfl)
theorem dX10_open_7 : decode cX10_open 7 = .ok (.putfield 27, 3) := dk_181 0 27 (dk_at dksX10_open_0 7 rfl rfl)
theorem dX10_open_10 : decode cX10_open 10 = .ok (.return_, 1) := dk_177 (dk_at dksX10_open_0 10 rfl rfl)
abbrev cX10_put : ByteArray := prog_10_method_4_code
def yX10_put : MethodName := ⟨RX10, "put", "([BII)I"⟩
def dkwX10_put_3 : List UInt8 := [17, 0, 128, 108, 4, 100, 42, 180, 0, 9, 3, 182, 0, 35, 132, 5, 1, 167, 255, 181, 21, 4, 172]
abbrev dktX10_put_3 : List UInt8 := dkwX10_put_3 ++ []
def dkwX10_put_2 : List UInt8 := [180, 0, 27, 17, 0, 128, 112, 154, 0, 29, 42, 180, 0, 19, 42, 180, 0, 15, 42, 180, 0, 27]
abbrev dktX10_put_2 : List UInt8 := dkwX10_put_2 ++ dktX10_put_3
def dkwX10_put_1 : List UInt8 := [17, 0, 128, 112, 43, 28, 21, 5, 96, 51, 84, 42, 89, 180, 0, 27, 4, 96, 181, 0, 27, 42]
abbrev dktX10_put_1 : List UInt8 := dkwX10_put_1 ++ dktX10_put_2
def dkwX10_put_0 : List UInt8 := [42, 180, 0, 27, 54, 4, 3, 54, 5, 21, 5, 29, 162, 0, 75, 42, 180, 0, 9, 42, 180, 0, 27]
abbrev dktX10_put_0 : List UInt8 := dkwX10_put_0 ++ dktX10_put_1
theorem dksX10_put_0 : cX10_put.data.toList.drop 0 = dktX10_put_0 := by decide +kernel
theorem dksX10_put_1 : cX10_put.data.toList.drop 23 = dktX10_put_1 := dk_seg dksX10_put_0 23 rfl rfl
theorem dksX10_put_2 : cX10_put.data.toList.drop 45 = dktX10_put_2 := dk_seg dksX10_put_1 22 rfl rfl
theorem dksX10_put_3 : cX10_put.data.toList.drop 67 = dktX10_put_3 := dk_seg dksX10_put_2 22 rfl rfl
theorem dX10_put_0 : decode cX10_put 0 = .ok (.aload_n 0, 1) := dk_42 (dk_at dksX10_put_0 0 rfl rfl)
theorem dX10_put_1 : decode cX10_put 1 = .ok (.getfield 27, 3) := dk_180 0 27 (dk_at dksX10_put_0 1 rfl rfl)
theorem dX10_put_4 : decode cX10_put 4 = .ok (.istore 4, 2) := dk_54 4 (dk_at dksX10_put_0 4 rfl rfl)
theorem dX10_put_6 : decode cX10_put 6 = .ok (.iconst 0, 1) := dk_3 (dk_at dksX10_put_0 6 rfl rfl)
theorem dX10_put_7 : decode cX10_put 7 = .ok (.istore 5, 2) := dk_54 5 (dk_at dksX10_put_0 7 rfl rfl)
theorem dX10_put_9 : decode cX10_put 9 = .ok (.iload 5, 2) := dk_21 5 (dk_at dksX10_put_0 9 rfl rfl)
theorem dX10_put_11 : decode cX10_put 11 = .ok (.iload_n 3, 1) := dk_29 (dk_at dksX10_put_0 11 rfl rfl)
theorem dX10_put_12 : decode cX10_put 12 = .ok (.if_icmp .ge 75, 3) := dk_162 0 75 (dk_at dksX10_put_0 12 rfl rfl)
theorem dX10_put_15 : decode cX10_put 15 = .ok (.aload_n 0, 1) := dk_42 (dk_at dksX10_put_0 15 rfl rfl)
theorem dX10_put_16 : decode cX10_put 16 = .ok (.getfield 9, 3) := dk_180 0 9 (dk_at dksX10_put_0 16 rfl rfl)
theorem dX10_put_19 : decode cX10_put 19 = .ok (.aload_n 0, 1) := dk_42 (dk_at dksX10_put_0 19 rfl rfl)
theorem dX10_put_20 : decode cX10_put 20 = .ok (.getfield 27, 3) := dk_180 0 27 (dk_at dksX10_put_0 20 rfl rfl)
theorem dX10_put_23 : decode cX10_put 23 = .ok (.sipush 128, 3) := dk_17 0 128 (dk_at dksX10_put_1 0 rfl rfl)
theorem dX10_put_26 : decode cX10_put 26 = .ok (.irem, 1) := dk_112 (dk_at dksX10_put_1 3 rfl rfl)
theorem dX10_put_27 : decode cX10_put 27 = .ok (.aload_n 1, 1) := dk_43 (dk_at dksX10_put_1 4 rfl rfl)
theorem dX10_put_28 : decode cX10_put 28 = .ok (.iload_n 2, 1) := dk_28 (dk_at dksX10_put_1 5 rfl rfl)
theorem dX10_put_29 : decode cX10_put 29 = .ok (.iload 5, 2) := dk_21 5 (dk_at dksX10_put_1 6 rfl rfl)
theorem dX10_put_31 : decode cX10_put 31 = .ok (.iadd, 1) := dk_96 (dk_at dksX10_put_1 8 rfl rfl)
theorem dX10_put_32 : decode cX10_put 32 = .ok (.baload, 1) := dk_51 (dk_at dksX10_put_1 9 rfl rfl)
theorem dX10_put_33 : decode cX10_put 33 = .ok (.bastore, 1) := dk_84 (dk_at dksX10_put_1 10 rfl rfl)
theorem dX10_put_34 : decode cX10_put 34 = .ok (.aload_n 0, 1) := dk_42 (dk_at dksX10_put_1 11 rfl rfl)
theorem dX10_put_35 : decode cX10_put 35 = .ok (.dup, 1) := dk_89 (dk_at dksX10_put_1 12 rfl rfl)
theorem dX10_put_36 : decode cX10_put 36 = .ok (.getfield 27, 3) := dk_180 0 27 (dk_at dksX10_put_1 13 rfl rfl)
theorem dX10_put_39 : decode cX10_put 39 = .ok (.iconst 1, 1) := dk_4 (dk_at dksX10_put_1 16 rfl rfl)
theorem dX10_put_40 : decode cX10_put 40 = .ok (.iadd, 1) := dk_96 (dk_at dksX10_put_1 17 rfl rfl)
theorem dX10_put_41 : decode cX10_put 41 = .ok (.putfield 27, 3) := dk_181 0 27 (dk_at dksX10_put_1 18 rfl rfl)
theorem dX10_put_44 : decode cX10_put 44 = .ok (.aload_n 0, 1) := dk_42 (dk_at dksX10_put_1 21 rfl rfl)
theorem dX10_put_45 : decode cX10_put 45 = .ok (.getfield 27, 3) := dk_180 0 27 (dk_at dksX10_put_2 0 rfl rfl)
theorem dX10_put_48 : decode cX10_put 48 = .ok (.sipush 128, 3) := dk_17 0 128 (dk_at dksX10_put_2 3 rfl rfl)
theorem dX10_put_51 : decode cX10_put 51 = .ok (.irem, 1) := dk_112 (dk_at dksX10_put_2 6 rfl rfl)
theorem dX10_put_52 : decode cX10_put 52 = .ok (.ifCond .ne 29, 3) := dk_154 0 29 (dk_at dksX10_put_2 7 rfl rfl)
theorem dX10_put_55 : decode cX10_put 55 = .ok (.aload_n 0, 1) := dk_42 (dk_at dksX10_put_2 10 rfl rfl)
theorem dX10_put_56 : decode cX10_put 56 = .ok (.getfield 19, 3) := dk_180 0 19 (dk_at dksX10_put_2 11 rfl rfl)
theorem dX10_put_59 : decode cX10_put 59 = .ok (.aload_n 0, 1) := dk_42 (dk_at dksX10_put_2 14 rfl rfl)
theorem dX10_put_60 : decode cX10_put 60 = .ok (.getfield 15, 3) := dk_180 0 15 (dk_at dksX10_put_2 15 rfl rfl)
theorem dX10_put_63 : decode cX10_put 63 = .ok (.aload_n 0, 1) := dk_42 (dk_at dksX10_put_2 18 rfl rfl)
theorem dX10_put_64 : decode cX10_put 64 = .ok (.getfield 27, 3) := dk_180 0 27 (dk_at dksX10_put_2 19 rfl rfl)
theorem dX10_put_67 : decode cX10_put 67 = .ok (.sipush 128, 3) := dk_17 0 128 (dk_at dksX10_put_3 0 rfl rfl)
theorem dX10_put_70 : decode cX10_put 70 = .ok (.idiv, 1) := dk_108 (dk_at dksX10_put_3 3 rfl rfl)
theorem dX10_put_71 : decode cX10_put 71 = .ok (.iconst 1, 1) := dk_4 (dk_at dksX10_put_3 4 rfl rfl)
theorem dX10_put_72 : decode cX10_put 72 = .ok (.isub, 1) := dk_100 (dk_at dksX10_put_3 5 rfl rfl)
theorem dX10_put_73 : decode cX10_put 73 = .ok (.aload_n 0, 1) := dk_42 (dk_at dksX10_put_3 6 rfl rfl)
theorem dX10_put_74 : decode cX10_put 74 = .ok (.getfield 9, 3) := dk_180 0 9 (dk_at dksX10_put_3 7 rfl rfl)
theorem dX10_put_77 : decode cX10_put 77 = .ok (.iconst 0, 1) := dk_3 (dk_at dksX10_put_3 10 rfl rfl)
theorem dX10_put_78 : decode cX10_put 78 = .ok (.invokevirtual 35, 3) := dk_182 0 35 (dk_at dksX10_put_3 11 rfl rfl)
theorem dX10_put_81 : decode cX10_put 81 = .ok (.iinc 5 1, 3) := dk_132 5 1 (dk_at dksX10_put_3 14 rfl rfl)
theorem dX10_put_84 : decode cX10_put 84 = .ok (.goto (-75), 3) := dk_167 255 181 (dk_at dksX10_put_3 17 rfl rfl)
theorem dX10_put_87 : decode cX10_put 87 = .ok (.iload 4, 2) := dk_21 4 (dk_at dksX10_put_3 20 rfl rfl)
theorem dX10_put_89 : decode cX10_put 89 = .ok (.ireturn, 1) := dk_172 (dk_at dksX10_put_3 22 rfl rfl)
abbrev cX10_takes : ByteArray := prog_10_method_3_code
def yX10_takes : MethodName := ⟨RX10, "takes", "(I)Z"⟩
def dkwX10_takes_1 : List UInt8 := [4, 167, 0, 4, 3, 172]
abbrev dktX10_takes_1 : List UInt8 := dkwX10_takes_1 ++ []
def dkwX10_takes_0 : List UInt8 := [42, 180, 0, 15, 2, 159, 0, 23, 42, 180, 0, 27, 27, 96, 42, 180, 0, 23, 180, 0, 30, 163, 0, 7]
abbrev dktX10_takes_0 : List UInt8 := dkwX10_takes_0 ++ dktX10_takes_1
theorem dksX10_takes_0 : cX10_takes.data.toList.drop 0 = dktX10_takes_0 := by decide +kernel
theorem dksX10_takes_1 : cX10_takes.data.toList.drop 24 = dktX10_takes_1 := dk_seg dksX10_takes_0 24 rfl rfl
theorem dX10_takes_0 : decode cX10_takes 0 = .ok (.aload_n 0, 1) := dk_42 (dk_at dksX10_takes_0 0 rfl rfl)
theorem dX10_takes_1 : decode cX10_takes 1 = .ok (.getfield 15, 3) := dk_180 0 15 (dk_at dksX10_takes_0 1 rfl rfl)
theorem dX10_takes_4 : decode cX10_takes 4 = .ok (.iconst (-1), 1) := dk_2 (dk_at dksX10_takes_0 4 rfl rfl)
theorem dX10_takes_5 : decode cX10_takes 5 = .ok (.if_icmp .eq 23, 3) := dk_159 0 23 (dk_at dksX10_takes_0 5 rfl rfl)
theorem dX10_takes_8 : decode cX10_takes 8 = .ok (.aload_n 0, 1) := dk_42 (dk_at dksX10_takes_0 8 rfl rfl)
theorem dX10_takes_9 : decode cX10_takes 9 = .ok (.getfield 27, 3) := dk_180 0 27 (dk_at dksX10_takes_0 9 rfl rfl)
theorem dX10_takes_12 : decode cX10_takes 12 = .ok (.iload_n 1, 1) := dk_27 (dk_at dksX10_takes_0 12 rfl rfl)
theorem dX10_takes_13 : decode cX10_takes 13 = .ok (.iadd, 1) := dk_96 (dk_at dksX10_takes_0 13 rfl rfl)
theorem dX10_takes_14 : decode cX10_takes 14 = .ok (.aload_n 0, 1) := dk_42 (dk_at dksX10_takes_0 14 rfl rfl)
theorem dX10_takes_15 : decode cX10_takes 15 = .ok (.getfield 23, 3) := dk_180 0 23 (dk_at dksX10_takes_0 15 rfl rfl)
theorem dX10_takes_18 : decode cX10_takes 18 = .ok (.getfield 30, 3) := dk_180 0 30 (dk_at dksX10_takes_0 18 rfl rfl)
theorem dX10_takes_21 : decode cX10_takes 21 = .ok (.if_icmp .gt 7, 3) := dk_163 0 7 (dk_at dksX10_takes_0 21 rfl rfl)
theorem dX10_takes_24 : decode cX10_takes 24 = .ok (.iconst 1, 1) := dk_4 (dk_at dksX10_takes_1 0 rfl rfl)
theorem dX10_takes_25 : decode cX10_takes 25 = .ok (.goto 4, 3) := dk_167 0 4 (dk_at dksX10_takes_1 1 rfl rfl)
theorem dX10_takes_28 : decode cX10_takes 28 = .ok (.iconst 0, 1) := dk_3 (dk_at dksX10_takes_1 4 rfl rfl)
theorem dX10_takes_29 : decode cX10_takes 29 = .ok (.ireturn, 1) := dk_172 (dk_at dksX10_takes_1 5 rfl rfl)
abbrev cX10_close : ByteArray := prog_10_method_6_code
def yX10_close : MethodName := ⟨RX10, "close", "()V"⟩
def dkwX10_close_1 : List UInt8 := [4, 79, 42, 2, 181, 0, 15, 177]
abbrev dktX10_close_1 : List UInt8 := dkwX10_close_1 ++ []
def dkwX10_close_0 : List UInt8 := [42, 180, 0, 15, 2, 160, 0, 4, 177, 42, 182, 0, 41, 42, 180, 0, 23, 180, 0, 44, 42, 180, 0, 15]
abbrev dktX10_close_0 : List UInt8 := dkwX10_close_0 ++ dktX10_close_1
theorem dksX10_close_0 : cX10_close.data.toList.drop 0 = dktX10_close_0 := by decide +kernel
theorem dksX10_close_1 : cX10_close.data.toList.drop 24 = dktX10_close_1 := dk_seg dksX10_close_0 24 rfl rfl
theorem dX10_close_0 : decode cX10_close 0 = .ok (.aload_n 0, 1) := dk_42 (dk_at dksX10_close_0 0 rfl rfl)
theorem dX10_close_1 : decode cX10_close 1 = .ok (.getfield 15, 3) := dk_180 0 15 (dk_at dksX10_close_0 1 rfl rfl)
theorem dX10_close_4 : decode cX10_close 4 = .ok (.iconst (-1), 1) := dk_2 (dk_at dksX10_close_0 4 rfl rfl)
theorem dX10_close_5 : decode cX10_close 5 = .ok (.if_icmp .ne 4, 3) := dk_160 0 4 (dk_at dksX10_close_0 5 rfl rfl)
theorem dX10_close_8 : decode cX10_close 8 = .ok (.return_, 1) := dk_177 (dk_at dksX10_close_0 8 rfl rfl)
theorem dX10_close_9 : decode cX10_close 9 = .ok (.aload_n 0, 1) := dk_42 (dk_at dksX10_close_0 9 rfl rfl)
theorem dX10_close_10 : decode cX10_close 10 = .ok (.invokevirtual 41, 3) := dk_182 0 41 (dk_at dksX10_close_0 10 rfl rfl)
theorem dX10_close_13 : decode cX10_close 13 = .ok (.aload_n 0, 1) := dk_42 (dk_at dksX10_close_0 13 rfl rfl)
theorem dX10_close_14 : decode cX10_close 14 = .ok (.getfield 23, 3) := dk_180 0 23 (dk_at dksX10_close_0 14 rfl rfl)
theorem dX10_close_17 : decode cX10_close 17 = .ok (.getfield 44, 3) := dk_180 0 44 (dk_at dksX10_close_0 17 rfl rfl)
theorem dX10_close_20 : decode cX10_close 20 = .ok (.aload_n 0, 1) := dk_42 (dk_at dksX10_close_0 20 rfl rfl)
theorem dX10_close_21 : decode cX10_close 21 = .ok (.getfield 15, 3) := dk_180 0 15 (dk_at dksX10_close_0 21 rfl rfl)
theorem dX10_close_24 : decode cX10_close 24 = .ok (.iconst 1, 1) := dk_4 (dk_at dksX10_close_1 0 rfl rfl)
theorem dX10_close_25 : decode cX10_close 25 = .ok (.iastore, 1) := dk_79 (dk_at dksX10_close_1 1 rfl rfl)
theorem dX10_close_26 : decode cX10_close 26 = .ok (.aload_n 0, 1) := dk_42 (dk_at dksX10_close_1 2 rfl rfl)
theorem dX10_close_27 : decode cX10_close 27 = .ok (.iconst (-1), 1) := dk_2 (dk_at dksX10_close_1 3 rfl rfl)
theorem dX10_close_28 : decode cX10_close 28 = .ok (.putfield 15, 3) := dk_181 0 15 (dk_at dksX10_close_1 4 rfl rfl)
theorem dX10_close_31 : decode cX10_close 31 = .ok (.return_, 1) := dk_177 (dk_at dksX10_close_1 7 rfl rfl)
abbrev cX10_flush : ByteArray := prog_10_method_5_code
def yX10_flush : MethodName := ⟨RX10, "flush", "()V"⟩
def dkwX10_flush_3 : List UInt8 := [100, 42, 180, 0, 9, 3, 182, 0, 35, 167, 255, 184, 177]
abbrev dktX10_flush_3 : List UInt8 := dkwX10_flush_3 ++ []
def dkwX10_flush_2 : List UInt8 := [17, 0, 128, 112, 154, 255, 213, 42, 180, 0, 19, 42, 180, 0, 15, 42, 180, 0, 27, 17, 0, 128, 108, 4]
abbrev dktX10_flush_2 : List UInt8 := dkwX10_flush_2 ++ dktX10_flush_3
def dkwX10_flush_1 : List UInt8 := [42, 180, 0, 27, 17, 0, 128, 112, 3, 84, 42, 89, 180, 0, 27, 4, 96, 181, 0, 27, 42, 180, 0, 27]
abbrev dktX10_flush_1 : List UInt8 := dkwX10_flush_1 ++ dktX10_flush_2
def dkwX10_flush_0 : List UInt8 := [42, 180, 0, 15, 2, 160, 0, 4, 177, 42, 180, 0, 27, 17, 0, 128, 112, 153, 0, 67, 42, 180, 0, 9]
abbrev dktX10_flush_0 : List UInt8 := dkwX10_flush_0 ++ dktX10_flush_1
theorem dksX10_flush_0 : cX10_flush.data.toList.drop 0 = dktX10_flush_0 := by decide +kernel
theorem dksX10_flush_1 : cX10_flush.data.toList.drop 24 = dktX10_flush_1 := dk_seg dksX10_flush_0 24 rfl rfl
theorem dksX10_flush_2 : cX10_flush.data.toList.drop 48 = dktX10_flush_2 := dk_seg dksX10_flush_1 24 rfl rfl
theorem dksX10_flush_3 : cX10_flush.data.toList.drop 72 = dktX10_flush_3 := dk_seg dksX10_flush_2 24 rfl rfl
theorem dX10_flush_0 : decode cX10_flush 0 = .ok (.aload_n 0, 1) := dk_42 (dk_at dksX10_flush_0 0 rfl rfl)
theorem dX10_flush_1 : decode cX10_flush 1 = .ok (.getfield 15, 3) := dk_180 0 15 (dk_at dksX10_flush_0 1 rfl rfl)
theorem dX10_flush_4 : decode cX10_flush 4 = .ok (.iconst (-1), 1) := dk_2 (dk_at dksX10_flush_0 4 rfl rfl)
theorem dX10_flush_5 : decode cX10_flush 5 = .ok (.if_icmp .ne 4, 3) := dk_160 0 4 (dk_at dksX10_flush_0 5 rfl rfl)
theorem dX10_flush_8 : decode cX10_flush 8 = .ok (.return_, 1) := dk_177 (dk_at dksX10_flush_0 8 rfl rfl)
theorem dX10_flush_9 : decode cX10_flush 9 = .ok (.aload_n 0, 1) := dk_42 (dk_at dksX10_flush_0 9 rfl rfl)
theorem dX10_flush_10 : decode cX10_flush 10 = .ok (.getfield 27, 3) := dk_180 0 27 (dk_at dksX10_flush_0 10 rfl rfl)
theorem dX10_flush_13 : decode cX10_flush 13 = .ok (.sipush 128, 3) := dk_17 0 128 (dk_at dksX10_flush_0 13 rfl rfl)
theorem dX10_flush_16 : decode cX10_flush 16 = .ok (.irem, 1) := dk_112 (dk_at dksX10_flush_0 16 rfl rfl)
theorem dX10_flush_17 : decode cX10_flush 17 = .ok (.ifCond .eq 67, 3) := dk_153 0 67 (dk_at dksX10_flush_0 17 rfl rfl)
theorem dX10_flush_20 : decode cX10_flush 20 = .ok (.aload_n 0, 1) := dk_42 (dk_at dksX10_flush_0 20 rfl rfl)
theorem dX10_flush_21 : decode cX10_flush 21 = .ok (.getfield 9, 3) := dk_180 0 9 (dk_at dksX10_flush_0 21 rfl rfl)
theorem dX10_flush_24 : decode cX10_flush 24 = .ok (.aload_n 0, 1) := dk_42 (dk_at dksX10_flush_1 0 rfl rfl)
theorem dX10_flush_25 : decode cX10_flush 25 = .ok (.getfield 27, 3) := dk_180 0 27 (dk_at dksX10_flush_1 1 rfl rfl)
theorem dX10_flush_28 : decode cX10_flush 28 = .ok (.sipush 128, 3) := dk_17 0 128 (dk_at dksX10_flush_1 4 rfl rfl)
theorem dX10_flush_31 : decode cX10_flush 31 = .ok (.irem, 1) := dk_112 (dk_at dksX10_flush_1 7 rfl rfl)
theorem dX10_flush_32 : decode cX10_flush 32 = .ok (.iconst 0, 1) := dk_3 (dk_at dksX10_flush_1 8 rfl rfl)
theorem dX10_flush_33 : decode cX10_flush 33 = .ok (.bastore, 1) := dk_84 (dk_at dksX10_flush_1 9 rfl rfl)
theorem dX10_flush_34 : decode cX10_flush 34 = .ok (.aload_n 0, 1) := dk_42 (dk_at dksX10_flush_1 10 rfl rfl)
theorem dX10_flush_35 : decode cX10_flush 35 = .ok (.dup, 1) := dk_89 (dk_at dksX10_flush_1 11 rfl rfl)
theorem dX10_flush_36 : decode cX10_flush 36 = .ok (.getfield 27, 3) := dk_180 0 27 (dk_at dksX10_flush_1 12 rfl rfl)
theorem dX10_flush_39 : decode cX10_flush 39 = .ok (.iconst 1, 1) := dk_4 (dk_at dksX10_flush_1 15 rfl rfl)
theorem dX10_flush_40 : decode cX10_flush 40 = .ok (.iadd, 1) := dk_96 (dk_at dksX10_flush_1 16 rfl rfl)
theorem dX10_flush_41 : decode cX10_flush 41 = .ok (.putfield 27, 3) := dk_181 0 27 (dk_at dksX10_flush_1 17 rfl rfl)
theorem dX10_flush_44 : decode cX10_flush 44 = .ok (.aload_n 0, 1) := dk_42 (dk_at dksX10_flush_1 20 rfl rfl)
theorem dX10_flush_45 : decode cX10_flush 45 = .ok (.getfield 27, 3) := dk_180 0 27 (dk_at dksX10_flush_1 21 rfl rfl)
theorem dX10_flush_48 : decode cX10_flush 48 = .ok (.sipush 128, 3) := dk_17 0 128 (dk_at dksX10_flush_2 0 rfl rfl)
theorem dX10_flush_51 : decode cX10_flush 51 = .ok (.irem, 1) := dk_112 (dk_at dksX10_flush_2 3 rfl rfl)
theorem dX10_flush_52 : decode cX10_flush 52 = .ok (.ifCond .ne (-43), 3) := dk_154 255 213 (dk_at dksX10_flush_2 4 rfl rfl)
theorem dX10_flush_55 : decode cX10_flush 55 = .ok (.aload_n 0, 1) := dk_42 (dk_at dksX10_flush_2 7 rfl rfl)
theorem dX10_flush_56 : decode cX10_flush 56 = .ok (.getfield 19, 3) := dk_180 0 19 (dk_at dksX10_flush_2 8 rfl rfl)
theorem dX10_flush_59 : decode cX10_flush 59 = .ok (.aload_n 0, 1) := dk_42 (dk_at dksX10_flush_2 11 rfl rfl)
theorem dX10_flush_60 : decode cX10_flush 60 = .ok (.getfield 15, 3) := dk_180 0 15 (dk_at dksX10_flush_2 12 rfl rfl)
theorem dX10_flush_63 : decode cX10_flush 63 = .ok (.aload_n 0, 1) := dk_42 (dk_at dksX10_flush_2 15 rfl rfl)
theorem dX10_flush_64 : decode cX10_flush 64 = .ok (.getfield 27, 3) := dk_180 0 27 (dk_at dksX10_flush_2 16 rfl rfl)
theorem dX10_flush_67 : decode cX10_flush 67 = .ok (.sipush 128, 3) := dk_17 0 128 (dk_at dksX10_flush_2 19 rfl rfl)
theorem dX10_flush_70 : decode cX10_flush 70 = .ok (.idiv, 1) := dk_108 (dk_at dksX10_flush_2 22 rfl rfl)
theorem dX10_flush_71 : decode cX10_flush 71 = .ok (.iconst 1, 1) := dk_4 (dk_at dksX10_flush_2 23 rfl rfl)
theorem dX10_flush_72 : decode cX10_flush 72 = .ok (.isub, 1) := dk_100 (dk_at dksX10_flush_3 0 rfl rfl)
theorem dX10_flush_73 : decode cX10_flush 73 = .ok (.aload_n 0, 1) := dk_42 (dk_at dksX10_flush_3 1 rfl rfl)
theorem dX10_flush_74 : decode cX10_flush 74 = .ok (.getfield 9, 3) := dk_180 0 9 (dk_at dksX10_flush_3 2 rfl rfl)
theorem dX10_flush_77 : decode cX10_flush 77 = .ok (.iconst 0, 1) := dk_3 (dk_at dksX10_flush_3 5 rfl rfl)
theorem dX10_flush_78 : decode cX10_flush 78 = .ok (.invokevirtual 35, 3) := dk_182 0 35 (dk_at dksX10_flush_3 6 rfl rfl)
theorem dX10_flush_81 : decode cX10_flush 81 = .ok (.goto (-72), 3) := dk_167 255 184 (dk_at dksX10_flush_3 9 rfl rfl)
theorem dX10_flush_84 : decode cX10_flush 84 = .ok (.return_, 1) := dk_177 (dk_at dksX10_flush_3 12 rfl rfl)
abbrev cX10_reads : ByteArray := prog_10_method_8_code
def yX10_reads : MethodName := ⟨RX10, "reads", "(II[BI)Z"⟩
def dkwX10_reads_2 : List UInt8 := [172]
abbrev dktX10_reads_2 : List UInt8 := dkwX10_reads_2 ++ []
def dkwX10_reads_1 : List UInt8 := [17, 0, 128, 112, 154, 0, 5, 3, 172, 42, 180, 0, 9, 3, 45, 21, 4, 17, 0, 128, 184, 0, 48, 4]
abbrev dktX10_reads_1 : List UInt8 := dkwX10_reads_1 ++ dktX10_reads_2
def dkwX10_reads_0 : List UInt8 := [27, 42, 180, 0, 15, 160, 0, 26, 28, 42, 180, 0, 27, 17, 0, 128, 108, 160, 0, 14, 42, 180, 0, 27]
abbrev dktX10_reads_0 : List UInt8 := dkwX10_reads_0 ++ dktX10_reads_1
theorem dksX10_reads_0 : cX10_reads.data.toList.drop 0 = dktX10_reads_0 := by decide +kernel
theorem dksX10_reads_1 : cX10_reads.data.toList.drop 24 = dktX10_reads_1 := dk_seg dksX10_reads_0 24 rfl rfl
theorem dksX10_reads_2 : cX10_reads.data.toList.drop 48 = dktX10_reads_2 := dk_seg dksX10_reads_1 24 rfl rfl
theorem dX10_reads_0 : decode cX10_reads 0 = .ok (.iload_n 1, 1) := dk_27 (dk_at dksX10_reads_0 0 rfl rfl)
theorem dX10_reads_1 : decode cX10_reads 1 = .ok (.aload_n 0, 1) := dk_42 (dk_at dksX10_reads_0 1 rfl rfl)
theorem dX10_reads_2 : decode cX10_reads 2 = .ok (.getfield 15, 3) := dk_180 0 15 (dk_at dksX10_reads_0 2 rfl rfl)
theorem dX10_reads_5 : decode cX10_reads 5 = .ok (.if_icmp .ne 26, 3) := dk_160 0 26 (dk_at dksX10_reads_0 5 rfl rfl)
theorem dX10_reads_8 : decode cX10_reads 8 = .ok (.iload_n 2, 1) := dk_28 (dk_at dksX10_reads_0 8 rfl rfl)
theorem dX10_reads_9 : decode cX10_reads 9 = .ok (.aload_n 0, 1) := dk_42 (dk_at dksX10_reads_0 9 rfl rfl)
theorem dX10_reads_10 : decode cX10_reads 10 = .ok (.getfield 27, 3) := dk_180 0 27 (dk_at dksX10_reads_0 10 rfl rfl)
theorem dX10_reads_13 : decode cX10_reads 13 = .ok (.sipush 128, 3) := dk_17 0 128 (dk_at dksX10_reads_0 13 rfl rfl)
theorem dX10_reads_16 : decode cX10_reads 16 = .ok (.idiv, 1) := dk_108 (dk_at dksX10_reads_0 16 rfl rfl)
theorem dX10_reads_17 : decode cX10_reads 17 = .ok (.if_icmp .ne 14, 3) := dk_160 0 14 (dk_at dksX10_reads_0 17 rfl rfl)
theorem dX10_reads_20 : decode cX10_reads 20 = .ok (.aload_n 0, 1) := dk_42 (dk_at dksX10_reads_0 20 rfl rfl)
theorem dX10_reads_21 : decode cX10_reads 21 = .ok (.getfield 27, 3) := dk_180 0 27 (dk_at dksX10_reads_0 21 rfl rfl)
theorem dX10_reads_24 : decode cX10_reads 24 = .ok (.sipush 128, 3) := dk_17 0 128 (dk_at dksX10_reads_1 0 rfl rfl)
theorem dX10_reads_27 : decode cX10_reads 27 = .ok (.irem, 1) := dk_112 (dk_at dksX10_reads_1 3 rfl rfl)
theorem dX10_reads_28 : decode cX10_reads 28 = .ok (.ifCond .ne 5, 3) := dk_154 0 5 (dk_at dksX10_reads_1 4 rfl rfl)
theorem dX10_reads_31 : decode cX10_reads 31 = .ok (.iconst 0, 1) := dk_3 (dk_at dksX10_reads_1 7 rfl rfl)
theorem dX10_reads_32 : decode cX10_reads 32 = .ok (.ireturn, 1) := dk_172 (dk_at dksX10_reads_1 8 rfl rfl)
theorem dX10_reads_33 : decode cX10_reads 33 = .ok (.aload_n 0, 1) := dk_42 (dk_at dksX10_reads_1 9 rfl rfl)
theorem dX10_reads_34 : decode cX10_reads 34 = .ok (.getfield 9, 3) := dk_180 0 9 (dk_at dksX10_reads_1 10 rfl rfl)
theorem dX10_reads_37 : decode cX10_reads 37 = .ok (.iconst 0, 1) := dk_3 (dk_at dksX10_reads_1 13 rfl rfl)
theorem dX10_reads_38 : decode cX10_reads 38 = .ok (.aload_n 3, 1) := dk_45 (dk_at dksX10_reads_1 14 rfl rfl)
theorem dX10_reads_39 : decode cX10_reads 39 = .ok (.iload 4, 2) := dk_21 4 (dk_at dksX10_reads_1 15 rfl rfl)
theorem dX10_reads_41 : decode cX10_reads 41 = .ok (.sipush 128, 3) := dk_17 0 128 (dk_at dksX10_reads_1 17 rfl rfl)
theorem dX10_reads_44 : decode cX10_reads 44 = .ok (.invokestatic 48, 3) := dk_184 0 48 (dk_at dksX10_reads_1 20 rfl rfl)
theorem dX10_reads_47 : decode cX10_reads 47 = .ok (.iconst 1, 1) := dk_4 (dk_at dksX10_reads_1 23 rfl rfl)
theorem dX10_reads_48 : decode cX10_reads 48 = .ok (.ireturn, 1) := dk_172 (dk_at dksX10_reads_2 0 rfl rfl)
abbrev cX10_lose : ByteArray := prog_10_method_7_code
def yX10_lose : MethodName := ⟨RX10, "lose", "()V"⟩
def dkwX10_lose_0 : List UInt8 := [42, 2, 181, 0, 15, 42, 3, 181, 0, 27, 177]
abbrev dktX10_lose_0 : List UInt8 := dkwX10_lose_0 ++ []
theorem dksX10_lose_0 : cX10_lose.data.toList.drop 0 = dktX10_lose_0 := by decide +kernel
theorem dX10_lose_0 : decode cX10_lose 0 = .ok (.aload_n 0, 1) := dk_42 (dk_at dksX10_lose_0 0 rfl rfl)
theorem dX10_lose_1 : decode cX10_lose 1 = .ok (.iconst (-1), 1) := dk_2 (dk_at dksX10_lose_0 1 rfl rfl)
theorem dX10_lose_2 : decode cX10_lose 2 = .ok (.putfield 15, 3) := dk_181 0 15 (dk_at dksX10_lose_0 2 rfl rfl)
theorem dX10_lose_5 : decode cX10_lose 5 = .ok (.aload_n 0, 1) := dk_42 (dk_at dksX10_lose_0 5 rfl rfl)
theorem dX10_lose_6 : decode cX10_lose 6 = .ok (.iconst 0, 1) := dk_3 (dk_at dksX10_lose_0 6 rfl rfl)
theorem dX10_lose_7 : decode cX10_lose 7 = .ok (.putfield 27, 3) := dk_181 0 27 (dk_at dksX10_lose_0 7 rfl rfl)
theorem dX10_lose_10 : decode cX10_lose 10 = .ok (.return_, 1) := dk_177 (dk_at dksX10_lose_0 10 rfl rfl)
theorem q141 : (Jvm.Cond.initialized "NandHouse$Writer") ∈ lw_all := lw_g (lw_at lw_m1 11 rfl) rfl
theorem q341 : (Jvm.Cond.fieldLink "NandHouse$Writer" (30 : Nat) "NandHouse$Space" "size" "I") ∈ lw_all := lw_g (lw_at lw_m1 211 rfl) rfl
theorem q343 : (Jvm.Cond.fieldLink "NandHouse$Writer" (44 : Nat) "NandHouse$Space" "use" "[I") ∈ lw_all := lw_g (lw_at lw_m1 213 rfl) rfl
theorem q500 : (Jvm.Cond.instantiable "NandHouse$Writer" (5 : Nat)) ∈ lw_all := lw_g (lw_at lw_m2 130 rfl) rfl
theorem q502 : (Jvm.Cond.instanceMethod ({ cls := "NandHouse$Writer", name := "<init>", desc := "(LNandHouse$Blocks;LNandHouse$Space;)V" } : Jvm.MethodName)) ∈ lw_all := lw_g (lw_at lw_m2 132 rfl) rfl
theorem q503 : (Jvm.Cond.code ({ cls := "NandHouse$Writer", name := "<init>", desc := "(LNandHouse$Blocks;LNandHouse$Space;)V" } : Jvm.MethodName) prog_10_method_1_code (3 : Nat) (Option.none : Option Jvm.ClassFile.FieldType)) ∈ lw_all := lw_g (lw_at lw_m2 133 rfl) rfl
theorem q504 : (Jvm.Cond.methodLink "NandHouse$Writer" (3 : Nat) ({ cls := "java/lang/Object", name := "<init>", desc := "()V" } : Jvm.MethodName)) ∈ lw_all := lw_g (lw_at lw_m2 134 rfl) rfl
theorem q505 : (Jvm.Cond.fieldLink "NandHouse$Writer" (19 : Nat) "NandHouse$Writer" "blocks" "LNandHouse$Blocks;") ∈ lw_all := lw_g (lw_at lw_m2 135 rfl) rfl
theorem q506 : (Jvm.Cond.fieldLink "NandHouse$Writer" (23 : Nat) "NandHouse$Writer" "space" "LNandHouse$Space;") ∈ lw_all := lw_g (lw_at lw_m2 136 rfl) rfl
theorem q507 : (Jvm.Cond.fieldLink "NandHouse$Writer" (9 : Nat) "NandHouse$Writer" "buffer" "[B") ∈ lw_all := lw_g (lw_at lw_m2 137 rfl) rfl
theorem q508 : (Jvm.Cond.fieldLink "NandHouse$Writer" (15 : Nat) "NandHouse$Writer" "number" "I") ∈ lw_all := lw_g (lw_at lw_m2 138 rfl) rfl
theorem q510 : (Jvm.Cond.fieldLink "NandHouse$Writer" (27 : Nat) "NandHouse$Writer" "place" "I") ∈ lw_all := lw_g (lw_at lw_m2 140 rfl) rfl
theorem q512 : (Jvm.Cond.laysFinal "NandHouse$Writer" "NandHouse$Writer" "blocks" "LNandHouse$Blocks;") ∈ lw_all := lw_g (lw_at lw_m2 142 rfl) rfl
theorem q513 : (Jvm.Cond.soleField "NandHouse$Writer" "blocks") ∈ lw_all := lw_g (lw_at lw_m2 143 rfl) rfl
theorem q514 : (Jvm.Cond.laysFinal "NandHouse$Writer" "NandHouse$Writer" "space" "LNandHouse$Space;") ∈ lw_all := lw_g (lw_at lw_m2 144 rfl) rfl
theorem q515 : (Jvm.Cond.soleField "NandHouse$Writer" "space") ∈ lw_all := lw_g (lw_at lw_m2 145 rfl) rfl
theorem q516 : (Jvm.Cond.laysFinal "NandHouse$Writer" "NandHouse$Writer" "buffer" "[B") ∈ lw_all := lw_g (lw_at lw_m2 146 rfl) rfl
theorem q517 : (Jvm.Cond.soleField "NandHouse$Writer" "buffer") ∈ lw_all := lw_g (lw_at lw_m2 147 rfl) rfl
theorem q518 : (Jvm.Cond.lays "NandHouse$Writer" "NandHouse$Writer" "number" "I") ∈ lw_all := lw_g (lw_at lw_m2 148 rfl) rfl
theorem q519 : (Jvm.Cond.soleField "NandHouse$Writer" "number") ∈ lw_all := lw_g (lw_at lw_m2 149 rfl) rfl
theorem q520 : (Jvm.Cond.lays "NandHouse$Writer" "NandHouse$Writer" "place" "I") ∈ lw_all := lw_g (lw_at lw_m2 150 rfl) rfl
theorem q521 : (Jvm.Cond.soleField "NandHouse$Writer" "place") ∈ lw_all := lw_g (lw_at lw_m2 151 rfl) rfl
theorem q522 : (Jvm.Cond.superclass "NandHouse$Writer" "java/lang/Object") ∈ lw_all := lw_g (lw_at lw_m2 152 rfl) rfl
theorem q853 : (Jvm.Cond.instanceMethod ({ cls := "NandHouse$Writer", name := "open", desc := "(I)V" } : Jvm.MethodName)) ∈ lw_all := lw_g (lw_at lw_m4 3 rfl) rfl
theorem q854 : (Jvm.Cond.selects "NandHouse$Writer" ({ cls := "NandHouse$Writer", name := "open", desc := "(I)V" } : Jvm.MethodName) ({ cls := "NandHouse$Writer", name := "open", desc := "(I)V" } : Jvm.MethodName)) ∈ lw_all := lw_g (lw_at lw_m4 4 rfl) rfl
theorem q855 : (Jvm.Cond.code ({ cls := "NandHouse$Writer", name := "open", desc := "(I)V" } : Jvm.MethodName) prog_10_method_2_code (2 : Nat) (Option.none : Option Jvm.ClassFile.FieldType)) ∈ lw_all := lw_g (lw_at lw_m4 5 rfl) rfl
theorem q857 : (Jvm.Cond.instanceMethod ({ cls := "NandHouse$Writer", name := "put", desc := "([BII)I" } : Jvm.MethodName)) ∈ lw_all := lw_g (lw_at lw_m4 7 rfl) rfl
theorem q858 : (Jvm.Cond.selects "NandHouse$Writer" ({ cls := "NandHouse$Writer", name := "put", desc := "([BII)I" } : Jvm.MethodName) ({ cls := "NandHouse$Writer", name := "put", desc := "([BII)I" } : Jvm.MethodName)) ∈ lw_all := lw_g (lw_at lw_m4 8 rfl) rfl
theorem q859 : (Jvm.Cond.code ({ cls := "NandHouse$Writer", name := "put", desc := "([BII)I" } : Jvm.MethodName) prog_10_method_4_code (6 : Nat) (Option.some Jvm.ClassFile.FieldType.int)) ∈ lw_all := lw_g (lw_at lw_m4 9 rfl) rfl
theorem q860 : (Jvm.Cond.methodLink "NandHouse$Writer" (35 : Nat) ({ cls := "NandHouse$Blocks", name := "write", desc := "(II[BI)V" } : Jvm.MethodName)) ∈ lw_all := lw_g (lw_at lw_m4 10 rfl) rfl
theorem q988 : (Jvm.Cond.instanceMethod ({ cls := "NandHouse$Writer", name := "takes", desc := "(I)Z" } : Jvm.MethodName)) ∈ lw_all := lw_g (lw_at lw_m4 138 rfl) rfl
theorem q989 : (Jvm.Cond.selects "NandHouse$Writer" ({ cls := "NandHouse$Writer", name := "takes", desc := "(I)Z" } : Jvm.MethodName) ({ cls := "NandHouse$Writer", name := "takes", desc := "(I)Z" } : Jvm.MethodName)) ∈ lw_all := lw_g (lw_at lw_m4 139 rfl) rfl
theorem q990 : (Jvm.Cond.code ({ cls := "NandHouse$Writer", name := "takes", desc := "(I)Z" } : Jvm.MethodName) prog_10_method_3_code (2 : Nat) (Option.some Jvm.ClassFile.FieldType.boolean)) ∈ lw_all := lw_g (lw_at lw_m4 140 rfl) rfl
theorem q992 : (Jvm.Cond.instanceMethod ({ cls := "NandHouse$Writer", name := "close", desc := "()V" } : Jvm.MethodName)) ∈ lw_all := lw_g (lw_at lw_m4 142 rfl) rfl
theorem q993 : (Jvm.Cond.selects "NandHouse$Writer" ({ cls := "NandHouse$Writer", name := "close", desc := "()V" } : Jvm.MethodName) ({ cls := "NandHouse$Writer", name := "close", desc := "()V" } : Jvm.MethodName)) ∈ lw_all := lw_g (lw_at lw_m4 143 rfl) rfl
theorem q994 : (Jvm.Cond.code ({ cls := "NandHouse$Writer", name := "close", desc := "()V" } : Jvm.MethodName) prog_10_method_6_code (1 : Nat) (Option.none : Option Jvm.ClassFile.FieldType)) ∈ lw_all := lw_g (lw_at lw_m4 144 rfl) rfl
theorem q995 : (Jvm.Cond.methodLink "NandHouse$Writer" (41 : Nat) ({ cls := "NandHouse$Writer", name := "flush", desc := "()V" } : Jvm.MethodName)) ∈ lw_all := lw_g (lw_at lw_m4 145 rfl) rfl
theorem q996 : (Jvm.Cond.instanceMethod ({ cls := "NandHouse$Writer", name := "flush", desc := "()V" } : Jvm.MethodName)) ∈ lw_all := lw_g (lw_at lw_m4 146 rfl) rfl
theorem q997 : (Jvm.Cond.selects "NandHouse$Writer" ({ cls := "NandHouse$Writer", name := "flush", desc := "()V" } : Jvm.MethodName) ({ cls := "NandHouse$Writer", name := "flush", desc := "()V" } : Jvm.MethodName)) ∈ lw_all := lw_g (lw_at lw_m4 147 rfl) rfl
theorem q998 : (Jvm.Cond.code ({ cls := "NandHouse$Writer", name := "flush", desc := "()V" } : Jvm.MethodName) prog_10_method_5_code (1 : Nat) (Option.none : Option Jvm.ClassFile.FieldType)) ∈ lw_all := lw_g (lw_at lw_m4 148 rfl) rfl
theorem q1195 : (Jvm.Cond.instanceMethod ({ cls := "NandHouse$Writer", name := "reads", desc := "(II[BI)Z" } : Jvm.MethodName)) ∈ lw_all := lw_g (lw_at lw_m5 105 rfl) rfl
theorem q1196 : (Jvm.Cond.selects "NandHouse$Writer" ({ cls := "NandHouse$Writer", name := "reads", desc := "(II[BI)Z" } : Jvm.MethodName) ({ cls := "NandHouse$Writer", name := "reads", desc := "(II[BI)Z" } : Jvm.MethodName)) ∈ lw_all := lw_g (lw_at lw_m5 106 rfl) rfl
theorem q1197 : (Jvm.Cond.code ({ cls := "NandHouse$Writer", name := "reads", desc := "(II[BI)Z" } : Jvm.MethodName) prog_10_method_8_code (5 : Nat) (Option.some Jvm.ClassFile.FieldType.boolean)) ∈ lw_all := lw_g (lw_at lw_m5 107 rfl) rfl
theorem q1198 : (Jvm.Cond.methodLink "NandHouse$Writer" (48 : Nat) ({ cls := "java/lang/System", name := "arraycopy", desc := "(Ljava/lang/Object;ILjava/lang/Object;II)V" } : Jvm.MethodName)) ∈ lw_all := lw_g (lw_at lw_m5 108 rfl) rfl
theorem q1647 : (Jvm.Cond.instanceMethod ({ cls := "NandHouse$Writer", name := "lose", desc := "()V" } : Jvm.MethodName)) ∈ lw_all := lw_g (lw_at lw_m7 77 rfl) rfl
theorem q1648 : (Jvm.Cond.selects "NandHouse$Writer" ({ cls := "NandHouse$Writer", name := "lose", desc := "()V" } : Jvm.MethodName) ({ cls := "NandHouse$Writer", name := "lose", desc := "()V" } : Jvm.MethodName)) ∈ lw_all := lw_g (lw_at lw_m7 78 rfl) rfl
theorem q1649 : (Jvm.Cond.code ({ cls := "NandHouse$Writer", name := "lose", desc := "()V" } : Jvm.MethodName) prog_10_method_7_code (1 : Nat) (Option.none : Option Jvm.ClassFile.FieldType)) ∈ lw_all := lw_g (lw_at lw_m7 79 rfl) rfl
theorem in_X10 : ∀ w ∈ wsX100, w ∈ lw_all := lw_in wsX100 [512, 514, 516, 518, 520] (by decide +kernel) (by decide +kernel)
