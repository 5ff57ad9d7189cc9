/-! Store.costOf(I)I -/
abbrev rm_Store_costOf : Room := { frames := 0, cells := 0, slots := 0, locals := 0 }
def wp_Store_costOf (cf : Cf) (tv : Nat → Int) (o : Int) (x1 : Int) (Q : Int → St → Prop) (σ : St) : Prop :=
  ¬ w32 (((cf.2.1 - 2) * 128) - 248) = 0 ∧
  Q (w32 (1 + (jdv (w32 (x1 + (tbl cf))) (w32 (((cf.2.1 - 2) * 128) - 248))))) σ
/-! Store.serial()J -/
abbrev rm_Store_serial : Room := { frames := 0, cells := 0, slots := 0, locals := 0 }
def wp_Store_serial (cf : Cf) (tv : Nat → Int) (o : Int) (Q : Int → St → Prop) (σ : St) : Prop :=
  ∀ σ_2, σ_2 = sI σ 202 o (w64 ((gI σ 202 o) + 1)) →
  Q (w64 ((gI σ 202 o) + 1)) σ_2
/-! Store.room(LNandHouse$Writer;I)V -/
def wp_Store_room_b48 (cf : Cf) (tv : Nat → Int) (o : Int) (x1 : Int) (x2 : Int) (Q : St → Prop) (t0 : Int) (t1 : Int) (σ : St) : Prop :=
  ((0 : Int) ≤ t1 ∧ t1 < (cf.1 - 6)) ∧
  ∀ σ_10, σ_10 = sA σ 325 o t1 t0 →
  Q σ_10
abbrev rm_Store_room : Room := { frames := 10, cells := 0, slots := 0, locals := 281 }
def wp_Store_room (cf : Cf) (tv : Nat → Int) (o : Int) (x1 : Int) (x2 : Int) (Q : St → Prop) (σ : St) : Prop :=
  wp_Writer_takes cf tv x1 x2 (fun r_11 σ_12 => rZ r_11 → RK σ_12 →
  (r_11 = 0 →
    wp_Writer_close cf tv x1 (fun σ_14 => RK σ_14 →
    wp_Space_fetch cf tv o (fun r_15 σ_16 => rI r_15 → RK σ_16 →
    wp_Writer_open cf tv x1 r_15 (fun σ_18 => RK σ_18 →
    (¬ x1 = (o + 4) →
      wp_Store_room_b48 cf tv o x1 x2 Q 0 (gI σ_18 451 x1) σ_18) ∧
    (x1 = (o + 4) →
      wp_Store_room_b48 cf tv o x1 x2 Q 1 (gI σ_18 451 x1) σ_18)) σ_16) σ_14) σ_12) ∧
  (¬ r_11 = 0 →
    Q σ_12)) σ
/-! Store.writeKnot(LNandHouse$Knot;)V -/
def wp_Store_writeKnot_b172 (cf : Cf) (tv : Nat → Int) (o : Int) (x1 : Int) (Q : St → Prop) (K38 : Int → St → Prop) (y2 : Int) (t0 : Int) (t1 : Int) (σ : St) : Prop :=
  wp_Row_put cf tv (o + 2) t1 t0 (fun σ_128 => RK σ_128 →
  ∀ y2_129, y2_129 = w32 (y2 + 1) →
  K38 y2_129 σ_128) σ
def wp_Store_writeKnot_b145 (cf : Cf) (tv : Nat → Int) (o : Int) (x1 : Int) (Q : St → Prop) (K38 : Int → St → Prop) (y2 : Int) (y3 : Int) (t0 : Int) (t1 : Int) (σ : St) : Prop :=
  wp_Row_put cf tv (o + 2) t1 t0 (fun σ_131 => RK σ_131 →
  (¬ y3 < 0 →
    0 ≤ y3 ∧
    wp_Store_writeKnot_b172 cf tv o x1 Q K38 y2 (gI σ_131 587 y3) (w32 (32 + (w32 (28 * y2)))) σ_131) ∧
  (y3 < 0 →
    0 ≤ x1 ∧
    ((0 : Int) ≤ y2 ∧ y2 < 9) ∧
    wp_Store_writeKnot_b172 cf tv o x1 Q K38 y2 (gA σ_131 582 x1 y2) (w32 (32 + (w32 (28 * y2)))) σ_131)) σ
def wp_Store_writeKnot_b118 (cf : Cf) (tv : Nat → Int) (o : Int) (x1 : Int) (Q : St → Prop) (K38 : Int → St → Prop) (y2 : Int) (y3 : Int) (t0 : Int) (t1 : Int) (σ : St) : Prop :=
  wp_Row_put cf tv (o + 2) t1 t0 (fun σ_135 => RK σ_135 →
  (¬ y3 < 0 →
    0 ≤ y3 ∧
    wp_Store_writeKnot_b145 cf tv o x1 Q K38 y2 y3 (gI σ_135 586 y3) (w32 (28 + (w32 (28 * y2)))) σ_135) ∧
  (y3 < 0 →
    0 ≤ x1 ∧
    ((0 : Int) ≤ y2 ∧ y2 < 9) ∧
    wp_Store_writeKnot_b145 cf tv o x1 Q K38 y2 y3 (gA σ_135 581 x1 y2) (w32 (28 + (w32 (28 * y2)))) σ_135)) σ
def wp_Store_writeKnot_L38 (cf : Cf) (tv : Nat → Int) (o : Int) (x1 : Int) (Q : St → Prop) (K38 : Int → St → Prop) (y2 : Int) (σ : St) : Prop :=
  0 ≤ x1 ∧
  ((gI σ 577 x1) ≤ y2 →
    wp_Store_serial cf tv o (fun r_139 σ_140 => rJ r_139 → RK σ_140 →
    wp_Row_close cf tv (o + 2) r_139 1 (fun σ_142 => RK σ_142 →
    wp_Store_room cf tv o (o + 4) (gI σ_142 514 (o + 2)) (fun σ_144 => RK σ_144 →
    wp_Writer_put cf tv (o + 4) 512 (o + 2) 0 (gI σ_144 514 (o + 2)) (fun r_145 σ_146 => rI r_145 → RK σ_146 →
    ∀ σ_147, σ_147 = sI σ_146 586 x1 r_145 →
    ∀ σ_148, σ_148 = sI σ_147 585 x1 (gI σ_147 451 (o + 4)) →
    ∀ σ_149, σ_149 = sI σ_148 587 x1 (gI σ_148 514 (o + 2)) →
    ∀ σ_150, σ_150 = sI σ_149 584 x1 0 →
    ((0 : Int) ≤ gI σ_150 585 x1 ∧ gI σ_150 585 x1 < (cf.1 - 6)) ∧
    ((0 : Int) ≤ gI σ_150 585 x1 ∧ gI σ_150 585 x1 < (cf.1 - 6)) ∧
    ∀ σ_151, σ_151 = sA σ_150 324 o (gI σ_150 585 x1) (w32 ((gA σ_150 324 o (gI σ_150 585 x1)) + (gI σ_150 587 x1))) →
    Q σ_151) σ_144) σ_142) σ_140) σ) ∧
  (¬ (gI σ 577 x1) ≤ y2 →
    ((0 : Int) ≤ y2 ∧ y2 < 9) ∧
    ∀ y3_152, y3_152 = gA σ 583 x1 y2 →
    ((0 : Int) ≤ y2 ∧ y2 < 9) ∧
    wp_Row_putLongAt cf tv (o + 2) (w32 (8 + (w32 (28 * y2)))) (gA σ 578 x1 y2) (fun σ_154 => RK σ_154 →
    ((0 : Int) ≤ y2 ∧ y2 < 9) ∧
    wp_Row_putLongAt cf tv (o + 2) (w32 (16 + (w32 (28 * y2)))) (gA σ_154 579 x1 y2) (fun σ_156 => RK σ_156 →
    (¬ y3_152 < 0 →
      0 ≤ y3_152 ∧
      wp_Store_writeKnot_b118 cf tv o x1 Q K38 y2 y3_152 (gI σ_156 585 y3_152) (w32 (24 + (w32 (28 * y2)))) σ_156) ∧
    (y3_152 < 0 →
      ((0 : Int) ≤ y2 ∧ y2 < 9) ∧
      wp_Store_writeKnot_b118 cf tv o x1 Q K38 y2 y3_152 (gA σ_156 580 x1 y2) (w32 (24 + (w32 (28 * y2)))) σ_156)) σ_154) σ)
abbrev rm_Store_writeKnot : Room := { frames := 11, cells := 0, slots := 0, locals := 303 }
def wp_Store_writeKnot (cf : Cf) (tv : Nat → Int) (o : Int) (x1 : Int) (Q : St → Prop) (σ : St) : Prop :=
  wp_Row_clear cf tv (o + 2) (fun σ_159 => RK σ_159 →
  wp_Index_sizeOf cf tv x1 (fun r_160 σ_161 => rI r_160 → RK σ_161 →
  wp_Row_begin cf tv (o + 2) 5 r_160 (fun σ_163 => RK σ_163 →
  0 ≤ x1 ∧
  wp_Row_put cf tv (o + 2) 0 (gI σ_163 576 x1) (fun σ_166 => RK σ_166 →
  wp_Row_put cf tv (o + 2) 4 (gI σ_166 577 x1) (fun σ_168 => RK σ_168 →
  lQ1 (wp_Store_writeKnot_L38 cf tv o x1 Q) 0 σ_168) σ_166) σ_163) σ_161) σ_159) σ
/-! Store.writeTable()V -/
def wp_Store_writeTable_L106 (cf : Cf) (tv : Nat → Int) (o : Int) (Q : St → Prop) (K106 : Int → St → Prop) (y1 : Int) (σ : St) : Prop :=
  ((cf.1 - 6) ≤ y1 →
    wp_Store_serial cf tv o (fun r_22 σ_23 => rJ r_22 → RK σ_23 →
    wp_Row_close cf tv (o + 2) r_22 1 (fun σ_25 => RK σ_25 →
    wp_Writer_put cf tv (o + 4) 512 (o + 2) 0 (gI σ_25 216 o) (fun r_26 σ_27 => rI r_26 → RK σ_27 →
    ∀ σ_28, σ_28 = sI σ_27 215 o r_26 →
    Q σ_28) σ_25) σ_23) σ) ∧
  (¬ (cf.1 - 6) ≤ y1 →
    ((0 : Int) ≤ y1 ∧ y1 < (cf.1 - 6)) ∧
    wp_Row_put cf tv (o + 2) (w32 (4 * (w32 (y1 - (4 + cf.2.2))))) (gA σ 324 o y1) (fun σ_30 => RK σ_30 →
    ∀ y1_31, y1_31 = w32 (y1 + 1) →
    K106 y1_31 σ_30) σ)
def wp_Store_writeTable_b27 (cf : Cf) (tv : Nat → Int) (o : Int) (Q : St → Prop) (σ : St) : Prop :=
  ∀ σ_32, σ_32 = sI σ 216 o (tbl cf) →
  wp_Store_room cf tv o (o + 4) (gI σ_32 216 o) (fun σ_34 => RK σ_34 →
  ∀ σ_35, σ_35 = sI σ_34 214 o (gI σ_34 451 (o + 4)) →
  ((0 : Int) ≤ gI σ_35 214 o ∧ gI σ_35 214 o < (cf.1 - 6)) ∧
  ((0 : Int) ≤ gI σ_35 214 o ∧ gI σ_35 214 o < (cf.1 - 6)) ∧
  ∀ σ_36, σ_36 = sA σ_35 324 o (gI σ_35 214 o) (w32 ((gA σ_35 324 o (gI σ_35 214 o)) + (gI σ_35 216 o))) →
  wp_Row_clear cf tv (o + 2) (fun σ_38 => RK σ_38 →
  wp_Row_begin cf tv (o + 2) 10 (gI σ_38 216 o) (fun σ_40 => RK σ_40 →
  ∀ y1_41, y1_41 = (4 + cf.2.2) →
  lQ1 (wp_Store_writeTable_L106 cf tv o Q) y1_41 σ_40) σ_38) σ_36) σ_32
abbrev rm_Store_writeTable : Room := { frames := 11, cells := 0, slots := 0, locals := 303 }
def wp_Store_writeTable (cf : Cf) (tv : Nat → Int) (o : Int) (Q : St → Prop) (σ : St) : Prop :=
  ((gI σ 214 o) = (-1) →
    wp_Store_writeTable_b27 cf tv o Q σ) ∧
  (¬ (gI σ 214 o) = (-1) →
    ((0 : Int) ≤ gI σ 214 o ∧ gI σ 214 o < (cf.1 - 6)) ∧
    ((0 : Int) ≤ gI σ 214 o ∧ gI σ 214 o < (cf.1 - 6)) ∧
    ∀ σ_42, σ_42 = sA σ 324 o (gI σ 214 o) (w32 ((gA σ 324 o (gI σ 214 o)) - (gI σ 216 o))) →
    wp_Store_writeTable_b27 cf tv o Q σ_42)
/-! Store.sheetOf(III)V -/
abbrev rm_Store_sheetOf : Room := { frames := 3, cells := 0, slots := 0, locals := 68 }
def wp_Store_sheetOf (cf : Cf) (tv : Nat → Int) (o : Int) (x1 : Int) (x2 : Int) (x3 : Int) (Q : St → Prop) (σ : St) : Prop :=
  wp_Arrays_fill cf tv 512 (o + 4) 0 (fun σ_12 => RK σ_12 →
  wp_Row_clear cf tv (o + 4) (fun σ_14 => RK σ_14 →
  wp_Row_begin cf tv (o + 4) x1 64 (fun σ_16 => RK σ_16 →
  wp_Row_put cf tv (o + 4) 0 x2 (fun σ_18 => RK σ_18 →
  wp_Row_put cf tv (o + 4) 4 x3 (fun σ_20 => RK σ_20 →
  Q σ_20) σ_18) σ_16) σ_14) σ_12) σ
/-! Store.endCommit()V -/
def wp_Store_endCommit_b168 (cf : Cf) (tv : Nat → Int) (o : Int) (Q : St → Prop) (K137 : Int → St → Prop) (y1 : Int) (σ : St) : Prop :=
  wp_Blocks_written cf tv o y1 (fun r_142 σ_143 => rI r_142 → RK σ_143 →
  wp_Blocks_write cf tv o y1 r_142 512 (o + 4) 0 (fun σ_145 => RK σ_145 →
  ∀ y1_146, y1_146 = w32 (y1 + 1) →
  K137 y1_146 σ_145) σ_143) σ
def wp_Store_endCommit_L137 (cf : Cf) (tv : Nat → Int) (o : Int) (Q : St → Prop) (K137 : Int → St → Prop) (y1 : Int) (σ : St) : Prop :=
  (2 ≤ y1 →
    wp_Blocks_drop cf tv o (gI σ 219 o) (fun σ_148 => RK σ_148 →
    wp_Space_sweep cf tv o (fun σ_150 => RK σ_150 →
    ∀ σ_151, σ_151 = sI σ_150 213 o 0 →
    ∀ σ_152, σ_152 = sI σ_151 223 o (-1) →
    ∀ σ_153, σ_153 = sI σ_152 225 o 0 →
    Q σ_153) σ_148) σ) ∧
  (¬ 2 ≤ y1 →
    wp_Blocks_written cf tv o y1 (fun r_154 σ_155 => rI r_154 → RK σ_155 →
    wp_Blocks_pages cf tv o (fun r_156 σ_157 => rI r_156 → RK σ_157 →
    (¬ r_154 = r_156 →
      wp_Store_endCommit_b168 cf tv o Q K137 y1 σ_157) ∧
    (r_154 = r_156 →
      wp_Blocks_drop cf tv o y1 (fun σ_159 => RK σ_159 →
      wp_Store_endCommit_b168 cf tv o Q K137 y1 σ_159) σ_157)) σ_155) σ)
abbrev rm_Store_endCommit : Room := { frames := 12, cells := 0, slots := 0, locals := 324 }
def wp_Store_endCommit (cf : Cf) (tv : Nat → Int) (o : Int) (Q : St → Prop) (σ : St) : Prop :=
  wp_Index_written cf tv o (fun σ_161 => RK σ_161 →
  wp_Store_writeTable cf tv o (fun σ_163 => RK σ_163 →
  wp_Writer_flush cf tv (o + 4) (fun σ_165 => RK σ_165 →
  wp_Store_sheetOf cf tv o 6 (gI σ_165 212 o) (gI σ_165 208 o) (fun σ_167 => RK σ_167 →
  0 ≤ gI σ_167 387 o ∧
  wp_Row_put cf tv (o + 4) 8 (gI σ_167 585 (gI σ_167 387 o)) (fun σ_170 => RK σ_170 →
  0 ≤ gI σ_170 387 o ∧
  wp_Row_put cf tv (o + 4) 12 (gI σ_170 586 (gI σ_170 387 o)) (fun σ_173 => RK σ_173 →
  0 ≤ gI σ_173 387 o ∧
  wp_Row_put cf tv (o + 4) 16 (gI σ_173 587 (gI σ_173 387 o)) (fun σ_176 => RK σ_176 →
  wp_Row_put cf tv (o + 4) 20 (gI σ_176 203 o) (fun σ_178 => RK σ_178 →
  wp_Row_put cf tv (o + 4) 24 (gI σ_178 214 o) (fun σ_180 => RK σ_180 →
  wp_Row_put cf tv (o + 4) 28 (gI σ_180 215 o) (fun σ_182 => RK σ_182 →
  wp_Row_put cf tv (o + 4) 32 (gI σ_182 216 o) (fun σ_184 => RK σ_184 →
  wp_Store_serial cf tv o (fun r_185 σ_186 => rJ r_185 → RK σ_186 →
  wp_Row_close cf tv (o + 4) r_185 1 (fun σ_188 => RK σ_188 →
  lQ1 (wp_Store_endCommit_L137 cf tv o Q) 0 σ_188) σ_186) σ_184) σ_182) σ_180) σ_178) σ_176) σ_173) σ_170) σ_167) σ_165) σ_163) σ_161) σ
/-! Store.commitStep()V -/
abbrev rm_Store_commitStep : Room := { frames := 13, cells := 0, slots := 0, locals := 345 }
def wp_Store_commitStep (cf : Cf) (tv : Nat → Int) (o : Int) (Q : St → Prop) (σ : St) : Prop :=
  ((gI σ 221 o) ≤ (gI σ 222 o) →
    wp_Store_endCommit cf tv o (fun σ_7 => RK σ_7 →
    Q σ_7) σ) ∧
  (¬ (gI σ 221 o) ≤ (gI σ 222 o) →
    ∀ σ_8, σ_8 = sI σ 222 o (w32 ((gI σ 222 o) + 1)) →
    ((0 : Int) ≤ gI σ 222 o ∧ gI σ 222 o < 320) ∧
    wp_Store_writeKnot cf tv o (gA σ_8 220 o (gI σ 222 o)) (fun σ_10 => RK σ_10 →
    Q σ_10) σ_8)
/-! Store.finish()V -/
def wp_Store_finish_L0 (cf : Cf) (tv : Nat → Int) (o : Int) (Q : St → Prop) (K0 : St → Prop) (σ : St) : Prop :=
  ((gI σ 213 o) = 0 →
    Q σ) ∧
  (¬ (gI σ 213 o) = 0 →
    wp_Store_commitStep cf tv o (fun σ_4 => RK σ_4 →
    K0 σ_4) σ)
abbrev rm_Store_finish : Room := { frames := 14, cells := 0, slots := 0, locals := 365 }
def wp_Store_finish (cf : Cf) (tv : Nat → Int) (o : Int) (Q : St → Prop) (σ : St) : Prop :=
  lQ0 (wp_Store_finish_L0 cf tv o Q) σ
/-! Store.logBud(II)V -/
abbrev rm_Store_logBud : Room := { frames := 8, cells := 0, slots := 0, locals := 241 }
def wp_Store_logBud (cf : Cf) (tv : Nat → Int) (o : Int) (x1 : Int) (x2 : Int) (Q : St → Prop) (σ : St) : Prop :=
  wp_Store_sheetOf cf tv o 8 x1 x2 (fun σ_13 => RK σ_13 →
  wp_Store_serial cf tv o (fun r_14 σ_15 => rJ r_14 → RK σ_15 →
  wp_Row_close cf tv (o + 4) r_14 1 (fun σ_17 => RK σ_17 →
  ∀ σ_18, σ_18 = sI σ_17 209 o (w32 ((gI σ_17 209 o) + 1)) →
  wp_Blocks_write cf tv o (gI σ_17 208 o) (gI σ_17 209 o) 512 (o + 4) 0 (fun σ_20 => RK σ_20 →
  ∀ σ_21, σ_21 = sI σ_20 211 o (w32 ((gI σ_20 211 o) + 1)) →
  ((0 : Int) ≤ gI σ_20 211 o ∧ gI σ_20 211 o < 8) ∧
  ∀ σ_22, σ_22 = sA σ_21 210 o (gI σ_20 211 o) x1 →
  Q σ_22) σ_18) σ_15) σ_13) σ
/-! Store.line(LNandHouse$Knot;)V -/
def wp_Store_line_b33 (cf : Cf) (tv : Nat → Int) (o : Int) (x1 : Int) (F : Int → Int → (St → Prop) → St → Prop) (Q : St → Prop) (σ : St) : Prop :=
  0 ≤ x1 ∧
  ((gI σ 584 x1) = 0 →
    Q σ) ∧
  (¬ (gI σ 584 x1) = 0 →
    ∀ σ_16, σ_16 = sI σ 221 o (w32 ((gI σ 221 o) + 1)) →
    ((0 : Int) ≤ gI σ 221 o ∧ gI σ 221 o < 320) ∧
    ∀ σ_17, σ_17 = sA σ_16 220 o (gI σ 221 o) x1 →
    Q σ_17)
def wp_Store_line_L2 (cf : Cf) (tv : Nat → Int) (o : Int) (x1 : Int) (F : Int → Int → (St → Prop) → St → Prop) (Q : St → Prop) (K2 : Int → St → Prop) (y2 : Int) (σ : St) : Prop :=
  0 ≤ x1 ∧
  ((gI σ 577 x1) ≤ y2 →
    wp_Store_line_b33 cf tv o x1 F Q σ) ∧
  (¬ (gI σ 577 x1) ≤ y2 →
    ((gI σ 576 x1) ≤ 0 →
      wp_Store_line_b33 cf tv o x1 F Q σ) ∧
    (¬ (gI σ 576 x1) ≤ 0 →
      ((0 : Int) ≤ y2 ∧ y2 < 9) ∧
      F o (gA σ 583 x1 y2) (fun σ_20 => RK σ_20 →
      ∀ y2_21, y2_21 = w32 (y2 + 1) →
      K2 y2_21 σ_20) σ))
def rm_Store_line (n : Nat) : Room := { frames := 0 + 1 * n, cells := 0, slots := 0, locals := 0 + 22 * n }
def wp_Store_line_R (cf : Cf) (tv : Nat → Int) (o : Int) (x1 : Int) (F : Int → Int → (St → Prop) → St → Prop) (Q : St → Prop) (σ : St) : Prop :=
  lQ1 (wp_Store_line_L2 cf tv o x1 F Q) 0 σ
def wp_Store_line (cf : Cf) (tv : Nat → Int) : Nat → Int → Int → (St → Prop) → St → Prop
  | 0 => fun _ _ _ _ => False
  | n + 1 => fun o x1 Q σ => wp_Store_line_R cf tv o x1 (wp_Store_line cf tv n) Q σ
/-! Store.beginCommit()V -/
def wp_Store_beginCommit_b261 (cf : Cf) (tv : Nat → Int) (o : Int) (Q : St → Prop) (σ : St) : Prop :=
  ∀ σ_112, σ_112 = sI σ 221 o 0 →
  ∀ σ_113, σ_113 = sI σ_112 222 o 0 →
  wp_Store_line cf tv 12 o (gI σ_113 387 o) (fun σ_115 => RK σ_115 →
  ∀ σ_116, σ_116 = sI σ_115 213 o 1 →
  Q σ_116) σ_113
def wp_Store_beginCommit_b221 (cf : Cf) (tv : Nat → Int) (o : Int) (Q : St → Prop) (K182 : Int → St → Prop) (y1 : Int) (σ : St) : Prop :=
  ∀ y1_117, y1_117 = w32 (y1 + 1) →
  K182 y1_117 σ
def wp_Store_beginCommit_L182 (cf : Cf) (tv : Nat → Int) (o : Int) (Q : St → Prop) (K182 : Int → St → Prop) (y1 : Int) (σ : St) : Prop :=
  ((gI σ 211 o) ≤ y1 →
    ∀ σ_118, σ_118 = sI σ 211 o 0 →
    ((gI σ_118 451 o) = (-1) →
      wp_Store_beginCommit_b261 cf tv o Q σ_118) ∧
    (¬ (gI σ_118 451 o) = (-1) →
      wp_Store_logBud cf tv o (gI σ_118 451 o) (gI σ_118 452 o) (fun σ_120 => RK σ_120 →
      wp_Store_beginCommit_b261 cf tv o Q σ_120) σ_118)) ∧
  (¬ (gI σ 211 o) ≤ y1 →
    ((0 : Int) ≤ y1 ∧ y1 < 8) ∧
    ((gA σ 210 o y1) = (gI σ 451 o) →
      wp_Store_beginCommit_b221 cf tv o Q K182 y1 σ) ∧
    (¬ (gA σ 210 o y1) = (gI σ 451 o) →
      ((0 : Int) ≤ y1 ∧ y1 < 8) ∧
      ((0 : Int) ≤ gA σ 210 o y1 ∧ gA σ 210 o y1 < (cf.1 - 6)) ∧
      ∀ σ_121, σ_121 = sA σ 323 o (gA σ 210 o y1) 1 →
      wp_Store_beginCommit_b221 cf tv o Q K182 y1 σ_121))
def wp_Store_beginCommit_L109 (cf : Cf) (tv : Nat → Int) (o : Int) (Q : St → Prop) (K109 : Int → St → Prop) (y1 : Int) (σ : St) : Prop :=
  ((gI σ 218 o) ≤ y1 →
    wp_Store_serial cf tv o (fun r_122 σ_123 => rJ r_122 → RK σ_123 →
    wp_Row_close cf tv (o + 4) r_122 1 (fun σ_125 => RK σ_125 →
    wp_Blocks_write cf tv o (gI σ_125 208 o) 0 512 (o + 4) 0 (fun σ_127 => RK σ_127 →
    ∀ σ_128, σ_128 = sI σ_127 209 o 1 →
    lQ1 (wp_Store_beginCommit_L182 cf tv o Q) 0 σ_128) σ_125) σ_123) σ) ∧
  (¬ (gI σ 218 o) ≤ y1 →
    ((0 : Int) ≤ y1 ∧ y1 < 16) ∧
    wp_Row_put cf tv (o + 4) (w32 (8 + (w32 (4 * y1)))) (gA σ 217 o y1) (fun σ_130 => RK σ_130 →
    ∀ y1_131, y1_131 = w32 (y1 + 1) →
    K109 y1_131 σ_130) σ)
def wp_Store_beginCommit_b47 (cf : Cf) (tv : Nat → Int) (o : Int) (Q : St → Prop) (σ : St) : Prop :=
  wp_Writer_flush cf tv (o + 2) (fun σ_133 => RK σ_133 →
  ∀ σ_134, σ_134 = sI σ_133 219 o (gI σ_133 208 o) →
  ∀ σ_135, σ_135 = sI σ_134 208 o (w32 (5 - (gI σ_134 208 o))) →
  wp_Blocks_drop cf tv o (gI σ_135 208 o) (fun σ_137 => RK σ_137 →
  ∀ σ_138, σ_138 = sI σ_137 212 o (w32 ((gI σ_137 212 o) + 1)) →
  wp_Store_sheetOf cf tv o 7 (gI σ_138 212 o) (gI σ_138 218 o) (fun σ_140 => RK σ_140 →
  lQ1 (wp_Store_beginCommit_L109 cf tv o Q) 0 σ_140) σ_138) σ_135) σ
abbrev rm_Store_beginCommit : Room := { frames := 15, cells := 0, slots := 0, locals := 339 }
def wp_Store_beginCommit (cf : Cf) (tv : Nat → Int) (o : Int) (Q : St → Prop) (σ : St) : Prop :=
  wp_Space_empty cf tv o (fun r_141 σ_142 => rI r_141 → RK σ_142 →
  wp_Index_freshBytes cf tv 12 o (gI σ_142 387 o) (fun r_143 σ_144 => rI r_143 → RK σ_144 →
  wp_Store_costOf cf tv o r_143 (fun r_145 σ_146 => rI r_145 → RK σ_146 →
  ((whl cf) < (w32 (r_141 - r_145)) →
    wp_Store_beginCommit_b47 cf tv o Q σ_146) ∧
  (¬ (whl cf) < (w32 (r_141 - r_145)) →
    wp_Index_stirAll cf tv 12 o (gI σ_146 387 o) (fun σ_148 => RK σ_148 →
    wp_Store_beginCommit_b47 cf tv o Q σ_148) σ_146)) σ_144) σ_142) σ
/-! Store.commitAll()V -/
abbrev rm_Store_commitAll : Room := { frames := 16, cells := 0, slots := 0, locals := 385 }
def wp_Store_commitAll (cf : Cf) (tv : Nat → Int) (o : Int) (Q : St → Prop) (σ : St) : Prop :=
  wp_Store_finish cf tv o (fun σ_8 => RK σ_8 →
  wp_Store_beginCommit cf tv o (fun σ_10 => RK σ_10 →
  wp_Store_finish cf tv o (fun σ_12 => RK σ_12 →
  Q σ_12) σ_10) σ_8) σ
/-! Store.format()V -/
abbrev rm_Store_format : Room := { frames := 18, cells := 0, slots := 0, locals := 491 }
def wp_Store_format (cf : Cf) (tv : Nat → Int) (o : Int) (Q : St → Prop) (σ : St) : Prop :=
  wp_Blocks_format cf tv o (fun σ_34 => RK σ_34 →
  wp_Space_clear cf tv o (fun σ_36 => RK σ_36 →
  wp_Index_clear cf tv o (fun σ_38 => RK σ_38 →
  ∀ σ_39, σ_39 = sI σ_38 218 o 0 →
  wp_Row_clear cf tv (o + 2) (fun σ_41 => RK σ_41 →
  wp_Row_begin cf tv (o + 2) 1 48 (fun σ_43 => RK σ_43 →
  wp_Row_put cf tv (o + 2) 0 1 (fun σ_45 => RK σ_45 →
  wp_Row_put cf tv (o + 2) 4 1 (fun σ_47 => RK σ_47 →
  wp_Store_serial cf tv o (fun r_48 σ_49 => rJ r_48 → RK σ_49 →
  wp_Row_close cf tv (o + 2) r_48 1 (fun σ_51 => RK σ_51 →
  wp_Space_fetch cf tv o (fun r_52 σ_53 => rI r_52 → RK σ_53 →
  wp_Writer_open cf tv (o + 2) r_52 (fun σ_55 => RK σ_55 →
  wp_Writer_put cf tv (o + 2) 512 (o + 2) 0 (gI σ_55 514 (o + 2)) (fun r_56 σ_57 => rI r_56 → RK σ_57 →
  wp_House_keyOf cf tv 1 0 (fun r_58 σ_59 => rJ r_58 → RK σ_59 →
  wp_Index_put cf tv o r_58 0 (gI σ_59 451 (o + 2)) r_56 (gI σ_59 514 (o + 2)) (fun σ_61 => RK σ_61 →
  ∀ σ_62, σ_62 = sI σ_61 208 o 2 →
  wp_Store_commitAll cf tv o (fun σ_64 => RK σ_64 →
  Q σ_64) σ_62) σ_59) σ_57) σ_55) σ_53) σ_51) σ_49) σ_47) σ_45) σ_43) σ_41) σ_39) σ_36) σ_34) σ
/-! Store.readPage(II)V -/
abbrev rm_Store_readPage : Room := { frames := 3, cells := 0, slots := 0, locals := 131 }
def wp_Store_readPage (cf : Cf) (tv : Nat → Int) (o : Int) (x1 : Int) (x2 : Int) (Q : St → Prop) (σ : St) : Prop :=
  wp_Writer_reads cf tv o x1 x2 201 o 0 (fun r_9 σ_10 => rZ r_9 → RK σ_10 →
  (¬ r_9 = 0 →
    Q σ_10) ∧
  (r_9 = 0 →
    wp_Writer_reads cf tv (o + 2) x1 x2 201 o 0 (fun r_11 σ_12 => rZ r_11 → RK σ_12 →
    (¬ r_11 = 0 →
      Q σ_12) ∧
    (r_11 = 0 →
      wp_Writer_reads cf tv (o + 4) x1 x2 201 o 0 (fun r_13 σ_14 => rZ r_13 → RK σ_14 →
      (¬ r_13 = 0 →
        Q σ_14) ∧
      (r_13 = 0 →
        wp_Blocks_read cf tv o x1 x2 201 o 0 (fun σ_16 => RK σ_16 →
        Q σ_16) σ_14)) σ_12)) σ_10)) σ
/-! Store.read(IIILNandHouse$Row;)V -/
def wp_Store_read_L8 (cf : Cf) (tv : Nat → Int) (o : Int) (x1 : Int) (x2 : Int) (x3 : Int) (x4 : Int) (Q : St → Prop) (K8 : Int → St → Prop) (y5 : Int) (σ : St) : Prop :=
  (x3 ≤ y5 →
    ∀ σ_19, σ_19 = sI σ 514 x4 x3 →
    Q σ_19) ∧
  (¬ x3 ≤ y5 →
    ∀ y6_20, y6_20 = jrm (w32 (x2 + y5)) 128 →
    ∀ y7_21, y7_21 = min (w32 (x3 - y5)) (w32 (128 - y6_20)) →
    wp_Store_readPage cf tv o x1 (jdv (w32 (x2 + y5)) 128) (fun σ_23 => RK σ_23 →
    (((0 : Int) ≤ y6_20 ∧ (0 : Int) ≤ y5 ∧ (0 : Int) ≤ y7_21) ∧ y6_20 + y7_21 ≤ 128 ∧ y5 + y7_21 ≤ (rowL x4)) ∧
    ∀ σ_24, σ_24 = sAr σ_23 512 x4 (cpy (gA σ_23 201 o) (gA σ_23 512 x4) y6_20 y5 y7_21) →
    ∀ y5_25, y5_25 = w32 (y5 + y7_21) →
    K8 y5_25 σ_24) σ)
abbrev rm_Store_read : Room := { frames := 4, cells := 0, slots := 0, locals := 153 }
def wp_Store_read (cf : Cf) (tv : Nat → Int) (o : Int) (x1 : Int) (x2 : Int) (x3 : Int) (x4 : Int) (Q : St → Prop) (σ : St) : Prop :=
  wp_Row_clear cf tv x4 (fun σ_27 => RK σ_27 →
  lQ1 (wp_Store_read_L8 cf tv o x1 x2 x3 x4 Q) 0 σ_27) σ
/-! Store.sync()V -/
abbrev rm_Store_sync : Room := { frames := 9, cells := 0, slots := 0, locals := 261 }
def wp_Store_sync (cf : Cf) (tv : Nat → Int) (o : Int) (Q : St → Prop) (σ : St) : Prop :=
  wp_Writer_flush cf tv o (fun σ_5 => RK σ_5 →
  ∀ σ_6, σ_6 = sI σ_5 205 o 0 →
  Q σ_6) σ
/-! Store.isShort()Z -/
def wp_Store_isShort_b34 (cf : Cf) (tv : Nat → Int) (o : Int) (Q : Int → St → Prop) (σ : St) : Prop :=
  Q 1 σ
abbrev rm_Store_isShort : Room := { frames := 1, cells := 0, slots := 0, locals := 22 }
def wp_Store_isShort (cf : Cf) (tv : Nat → Int) (o : Int) (Q : Int → St → Prop) (σ : St) : Prop :=
  wp_Space_empty cf tv o (fun r_5 σ_6 => rI r_5 → RK σ_6 →
  (r_5 < (w32 ((whl cf) + 2)) →
    wp_Store_isShort_b34 cf tv o Q σ_6) ∧
  (¬ r_5 < (w32 ((whl cf) + 2)) →
    wp_Space_roomy cf tv o (fun r_7 σ_8 => rI r_7 → RK σ_8 →
    ((w32 ((w32 (2 * (whl cf))) + 4)) ≤ r_7 →
      Q 0 σ_8) ∧
    (¬ (w32 ((w32 (2 * (whl cf))) + 4)) ≤ r_7 →
      wp_Store_isShort_b34 cf tv o Q σ_8)) σ_6)) σ
/-! Store.pick(Z)Z -/
def wp_Store_pick_b76 (cf : Cf) (tv : Nat → Int) (o : Int) (x1 : Int) (Q : Int → St → Prop) (K78 : Int → Int → St → Prop) (y3 : Int) (σ : St) : Prop :=
  K78 y3 y3 σ
def wp_Store_pick_b50 (cf : Cf) (tv : Nat → Int) (o : Int) (x1 : Int) (Q : Int → St → Prop) (K78 : Int → Int → St → Prop) (y2 : Int) (y3 : Int) (σ : St) : Prop :=
  (y2 = (-1) →
    wp_Store_pick_b76 cf tv o x1 Q K78 y3 σ) ∧
  (¬ y2 = (-1) →
    ((0 : Int) ≤ y3 ∧ y3 < (cf.1 - 6)) ∧
    ((0 : Int) ≤ y2 ∧ y2 < (cf.1 - 6)) ∧
    ((gA σ 324 o y2) ≤ (gA σ 324 o y3) →
      K78 y2 y3 σ) ∧
    (¬ (gA σ 324 o y2) ≤ (gA σ 324 o y3) →
      wp_Store_pick_b76 cf tv o x1 Q K78 y3 σ))
def wp_Store_pick_b78 (cf : Cf) (tv : Nat → Int) (o : Int) (x1 : Int) (Q : Int → St → Prop) (K10 : Int → Int → St → Prop) (y2 : Int) (y3 : Int) (σ : St) : Prop :=
  ∀ y3_21, y3_21 = w32 (y3 + 1) →
  K10 y2 y3_21 σ
def wp_Store_pick_L10 (cf : Cf) (tv : Nat → Int) (o : Int) (x1 : Int) (Q : Int → St → Prop) (K10 : Int → Int → St → Prop) (y2 : Int) (y3 : Int) (σ : St) : Prop :=
  ((cf.1 - 6) ≤ y3 →
    (y2 = (-1) →
      Q 0 σ) ∧
    (¬ y2 = (-1) →
      ((0 : Int) ≤ y2 ∧ y2 < (cf.1 - 6)) ∧
      ((gA σ 324 o y2) ≤ (w32 (((cf.2.1 - 2) * 128) - 256)) →
        ∀ σ_22, σ_22 = sI σ 223 o y2 →
        ∀ σ_23, σ_23 = sI σ_22 224 o 0 →
        ∀ σ_24, σ_24 = sI σ_23 225 o 0 →
        Q 1 σ_24) ∧
      (¬ (gA σ 324 o y2) ≤ (w32 (((cf.2.1 - 2) * 128) - 256)) →
        Q 0 σ))) ∧
  (¬ (cf.1 - 6) ≤ y3 →
    ((0 : Int) ≤ y3 ∧ y3 < (cf.1 - 6)) ∧
    (¬ (gA σ 323 o y3) = 1 →
      wp_Store_pick_b78 cf tv o x1 Q K10 y2 y3 σ) ∧
    ((gA σ 323 o y3) = 1 →
      (¬ x1 = 0 →
        wp_Store_pick_b50 cf tv o x1 Q (wp_Store_pick_b78 cf tv o x1 Q K10) y2 y3 σ) ∧
      (x1 = 0 →
        ((0 : Int) ≤ y3 ∧ y3 < (cf.1 - 6)) ∧
        (¬ (gA σ 325 o y3) = 0 →
          wp_Store_pick_b78 cf tv o x1 Q K10 y2 y3 σ) ∧
        ((gA σ 325 o y3) = 0 →
          wp_Store_pick_b50 cf tv o x1 Q (wp_Store_pick_b78 cf tv o x1 Q K10) y2 y3 σ))))
abbrev rm_Store_pick : Room := { frames := 0, cells := 0, slots := 0, locals := 0 }
def wp_Store_pick (cf : Cf) (tv : Nat → Int) (o : Int) (x1 : Int) (Q : Int → St → Prop) (σ : St) : Prop :=
  ∀ y3_25, y3_25 = (4 + cf.2.2) →
  lQ2 (wp_Store_pick_L10 cf tv o x1 Q) (-1) y3_25 σ
/-! Store.look(IILNandHouse$Row;)I -/
abbrev rm_Store_look : Room := { frames := 5, cells := 0, slots := 0, locals := 180 }
def wp_Store_look (cf : Cf) (tv : Nat → Int) (o : Int) (x1 : Int) (x2 : Int) (x3 : Int) (Q : Int → St → Prop) (σ : St) : Prop :=
  wp_Blocks_written cf tv o x1 (fun r_12 σ_13 => rI r_12 → RK σ_13 →
  ∀ y4_14, y4_14 = w32 (r_12 * 128) →
  ((w32 (x2 + 8)) ≤ y4_14 →
    wp_Store_read cf tv o x1 x2 8 x3 (fun σ_16 => RK σ_16 →
    wp_Row_length cf tv x3 (fun r_17 σ_18 => rI r_17 → RK σ_18 →
    (¬ r_17 = 0 →
      (r_17 < 24 →
        Q (-1) σ_18) ∧
      (¬ r_17 < 24 →
        (320 < r_17 →
          Q (-1) σ_18) ∧
        (¬ 320 < r_17 →
          ((w32 (x2 + r_17)) ≤ y4_14 →
            wp_Store_read cf tv o x1 x2 r_17 x3 (fun σ_20 => RK σ_20 →
            wp_Row_isWhole cf tv x3 320 (fun r_21 σ_22 => rZ r_21 → RK σ_22 →
            (r_21 = 0 →
              Q (-1) σ_22) ∧
            (¬ r_21 = 0 →
              Q r_17 σ_22)) σ_20) σ_18) ∧
          (¬ (w32 (x2 + r_17)) ≤ y4_14 →
            Q (-1) σ_18)))) ∧
    (r_17 = 0 →
      Q 0 σ_18)) σ_16) σ_13) ∧
  (¬ (w32 (x2 + 8)) ≤ y4_14 →
    Q (-1) σ_13)) σ
/-! Store.behindPage(I)I -/
abbrev rm_Store_behindPage : Room := { frames := 0, cells := 0, slots := 0, locals := 0 }
def wp_Store_behindPage (cf : Cf) (tv : Nat → Int) (x0 : Int) (Q : Int → St → Prop) (σ : St) : Prop :=
  Q (w32 ((w32 (x0 - (jrm x0 128))) + 128)) σ
/-! Store.isLeaf(I)Z -/
def wp_Store_isLeaf_b21 (cf : Cf) (tv : Nat → Int) (x0 : Int) (Q : Int → St → Prop) (σ : St) : Prop :=
  Q 1 σ
abbrev rm_Store_isLeaf : Room := { frames := 0, cells := 0, slots := 0, locals := 0 }
def wp_Store_isLeaf (cf : Cf) (tv : Nat → Int) (x0 : Int) (Q : Int → St → Prop) (σ : St) : Prop :=
  (x0 = 1 →
    wp_Store_isLeaf_b21 cf tv x0 Q σ) ∧
  (¬ x0 = 1 →
    (x0 = 2 →
      wp_Store_isLeaf_b21 cf tv x0 Q σ) ∧
    (¬ x0 = 2 →
      (x0 = 3 →
        wp_Store_isLeaf_b21 cf tv x0 Q σ) ∧
      (¬ x0 = 3 →
        (¬ x0 = 9 →
          Q 0 σ) ∧
        (x0 = 9 →
          wp_Store_isLeaf_b21 cf tv x0 Q σ))))
/-! Store.highOf(LNandHouse$Row;)J -/
def wp_Store_highOf_b38 (cf : Cf) (tv : Nat → Int) (x0 : Int) (Q : Int → St → Prop) (t0 : Int) (t1 : Int) (σ : St) : Prop :=
  wp_House_keyOf cf tv t1 t0 (fun r_7 σ_8 => rJ r_7 → RK σ_8 →
  Q r_7 σ_8) σ
abbrev rm_Store_highOf : Room := { frames := 2, cells := 0, slots := 0, locals := 44 }
def wp_Store_highOf (cf : Cf) (tv : Nat → Int) (x0 : Int) (Q : Int → St → Prop) (σ : St) : Prop :=
  wp_Row_type cf tv x0 (fun r_9 σ_10 => rI r_9 → RK σ_10 →
  wp_Row_get cf tv x0 0 (fun r_11 σ_12 => rI r_11 → RK σ_12 →
  (¬ r_9 = 1 →
    (¬ r_9 = 3 →
      (¬ r_9 = 2 →
        wp_Store_highOf_b38 cf tv x0 Q 3 r_11 σ_12) ∧
      (r_9 = 2 →
        wp_Store_highOf_b38 cf tv x0 Q 2 r_11 σ_12)) ∧
    (r_9 = 3 →
      wp_Store_highOf_b38 cf tv x0 Q 1 r_11 σ_12)) ∧
  (r_9 = 1 →
    wp_Store_highOf_b38 cf tv x0 Q 0 r_11 σ_12)) σ_10) σ
/-! Store.lowOf(LNandHouse$Row;)J -/
abbrev rm_Store_lowOf : Room := { frames := 3, cells := 0, slots := 0, locals := 65 }
def wp_Store_lowOf (cf : Cf) (tv : Nat → Int) (x0 : Int) (Q : Int → St → Prop) (σ : St) : Prop :=
  wp_Row_type cf tv x0 (fun r_15 σ_16 => rI r_15 → RK σ_16 →
  (¬ r_15 = 1 →
    (¬ r_15 = 3 →
      (¬ r_15 = 2 →
        wp_Row_getLongAt cf tv x0 8 (fun r_17 σ_18 => rJ r_17 → RK σ_18 →
        wp_Long_reverseBytes cf tv r_17 (fun r_19 σ_20 => rJ r_19 → RK σ_20 →
        Q r_19 σ_20) σ_18) σ_16) ∧
      (r_15 = 2 →
        wp_Row_getLongAt cf tv x0 8 (fun r_21 σ_22 => rJ r_21 → RK σ_22 →
        wp_House_hash cf tv r_21 (fun r_23 σ_24 => rJ r_23 → RK σ_24 →
        wp_Row_get cf tv x0 16 (fun r_25 σ_26 => rI r_25 → RK σ_26 →
        Q (w64 (r_23 + r_25)) σ_26) σ_24) σ_22) σ_16)) ∧
    (r_15 = 3 →
      wp_Row_get cf tv x0 4 (fun r_27 σ_28 => rI r_27 → RK σ_28 →
      Q (iand r_27 65535) σ_28) σ_16)) ∧
  (r_15 = 1 →
    Q 0 σ_16)) σ
/-! Store.moveNode(I)V -/
abbrev rm_Store_moveNode : Room := { frames := 18, cells := 0, slots := 0, locals := 491 }
def wp_Store_moveNode (cf : Cf) (tv : Nat → Int) (o : Int) (x1 : Int) (Q : St → Prop) (σ : St) : Prop :=
  wp_Store_room cf tv o (o + 2) x1 (fun σ_12 => RK σ_12 →
  wp_Writer_put cf tv (o + 2) 512 o 0 x1 (fun r_13 σ_14 => rI r_13 → RK σ_14 →
  wp_Store_highOf cf tv o (fun r_15 σ_16 => rJ r_15 → RK σ_16 →
  wp_Store_lowOf cf tv o (fun r_17 σ_18 => rJ r_17 → RK σ_18 →
  wp_Index_put cf tv o r_15 r_17 (gI σ_18 451 (o + 2)) r_13 x1 (fun σ_20 => RK σ_20 →
  Q σ_20) σ_18) σ_16) σ_14) σ_12) σ
/-! Store.collectStep()V -/
def wp_Store_collectStep_b169 (cf : Cf) (tv : Nat → Int) (o : Int) (Q : St → Prop) (y1 : Int) (σ : St) : Prop :=
  ∀ σ_30, σ_30 = sI σ 224 o (w32 ((gI σ 224 o) + y1)) →
  Q σ_30
abbrev rm_Store_collectStep : Room := { frames := 19, cells := 0, slots := 0, locals := 513 }
def wp_Store_collectStep (cf : Cf) (tv : Nat → Int) (o : Int) (Q : St → Prop) (σ : St) : Prop :=
  wp_Store_look cf tv o (gI σ 223 o) (gI σ 224 o) o (fun r_31 σ_32 => rI r_31 → RK σ_32 →
  (¬ r_31 = (-1) →
    (¬ r_31 = 0 →
      wp_Row_type cf tv o (fun r_33 σ_34 => rI r_33 → RK σ_34 →
      (¬ r_33 = 5 →
        wp_Row_type cf tv o (fun r_35 σ_36 => rI r_35 → RK σ_36 →
        wp_Store_isLeaf cf tv r_35 (fun r_37 σ_38 => rZ r_37 → RK σ_38 →
        (r_37 = 0 →
          wp_Store_collectStep_b169 cf tv o Q r_31 σ_38) ∧
        (¬ r_37 = 0 →
          wp_Store_highOf cf tv o (fun r_39 σ_40 => rJ r_39 → RK σ_40 →
          wp_Store_lowOf cf tv o (fun r_41 σ_42 => rJ r_41 → RK σ_42 →
          wp_Index_find cf tv o r_39 r_41 (fun r_43 σ_44 => rZ r_43 → RK σ_44 →
          (r_43 = 0 →
            wp_Store_collectStep_b169 cf tv o Q r_31 σ_44) ∧
          (¬ r_43 = 0 →
            (¬ (gI σ_44 393 o) = (gI σ_44 223 o) →
              wp_Store_collectStep_b169 cf tv o Q r_31 σ_44) ∧
            ((gI σ_44 393 o) = (gI σ_44 223 o) →
              (¬ (gI σ_44 394 o) = (gI σ_44 224 o) →
                wp_Store_collectStep_b169 cf tv o Q r_31 σ_44) ∧
              ((gI σ_44 394 o) = (gI σ_44 224 o) →
                wp_Store_moveNode cf tv o r_31 (fun σ_46 => RK σ_46 →
                wp_Store_collectStep_b169 cf tv o Q r_31 σ_46) σ_44)))) σ_42) σ_40) σ_38)) σ_36) σ_34) ∧
      (r_33 = 5 →
        wp_Row_get cf tv o 0 (fun r_47 σ_48 => rI r_47 → RK σ_48 →
        wp_Row_getLongAt cf tv o 8 (fun r_49 σ_50 => rJ r_49 → RK σ_50 →
        wp_Row_getLongAt cf tv o 16 (fun r_51 σ_52 => rJ r_51 → RK σ_52 →
        wp_Index_stir cf tv o r_47 r_49 r_51 (gI σ_52 223 o) (gI σ_52 224 o) (fun σ_54 => RK σ_54 →
        wp_Store_collectStep_b169 cf tv o Q r_31 σ_54) σ_52) σ_50) σ_48) σ_34)) σ_32) ∧
    (r_31 = 0 →
      wp_Store_behindPage cf tv (gI σ_32 224 o) (fun r_55 σ_56 => rI r_55 → RK σ_56 →
      ∀ σ_57, σ_57 = sI σ_56 224 o r_55 →
      Q σ_57) σ_32)) ∧
  (r_31 = (-1) →
    ∀ σ_58, σ_58 = sI σ_32 225 o 1 →
    Q σ_58)) σ
/-! Store.commitWhole()V -/
abbrev rm_Store_commitWhole : Room := { frames := 16, cells := 0, slots := 0, locals := 385 }
def wp_Store_commitWhole (cf : Cf) (tv : Nat → Int) (o : Int) (Q : St → Prop) (σ : St) : Prop :=
  wp_Store_finish cf tv o (fun σ_10 => RK σ_10 →
  wp_Index_stirAll cf tv 12 o (gI σ_10 387 o) (fun σ_12 => RK σ_12 →
  wp_Store_beginCommit cf tv o (fun σ_14 => RK σ_14 →
  wp_Store_finish cf tv o (fun σ_16 => RK σ_16 →
  Q σ_16) σ_14) σ_12) σ_10) σ
/-! Store.makeRoom()V -/
def wp_Store_makeRoom_b69 (cf : Cf) (tv : Nat → Int) (o : Int) (Q : St → Prop) (K4 : Int → Int → St → Prop) (y1 : Int) (y2 : Int) (σ : St) : Prop :=
  wp_Store_commitWhole cf tv o (fun σ_29 => RK σ_29 →
  ∀ y2_30, y2_30 = w32 (y2 + 1) →
  K4 y1 y2_30 σ_29) σ
def wp_Store_makeRoom_L47 (cf : Cf) (tv : Nat → Int) (o : Int) (Q : St → Prop) (K4 : Int → Int → St → Prop) (K47 : Int → Int → St → Prop) (y1 : Int) (y2 : Int) (σ : St) : Prop :=
  ((gI σ 223 o) = (-1) →
    wp_Store_makeRoom_b69 cf tv o Q K4 y1 y2 σ) ∧
  (¬ (gI σ 223 o) = (-1) →
    (¬ (gI σ 225 o) = 0 →
      wp_Store_makeRoom_b69 cf tv o Q K4 y1 y2 σ) ∧
    ((gI σ 225 o) = 0 →
      wp_Store_collectStep cf tv o (fun σ_32 => RK σ_32 →
      K47 y1 y2 σ_32) σ))
def wp_Store_makeRoom_L4 (cf : Cf) (tv : Nat → Int) (o : Int) (Q : St → Prop) (K4 : Int → Int → St → Prop) (y1 : Int) (y2 : Int) (σ : St) : Prop :=
  ((w32 (2 * (cf.1 - 6))) ≤ y2 →
    Q σ) ∧
  (¬ (w32 (2 * (cf.1 - 6))) ≤ y2 →
    wp_Store_isShort cf tv o (fun r_33 σ_34 => rZ r_33 → RK σ_34 →
    (r_33 = 0 →
      Q σ_34) ∧
    (¬ r_33 = 0 →
      (¬ (gI σ_34 223 o) = (-1) →
        lQ2 (wp_Store_makeRoom_L47 cf tv o Q K4) y1 y2 σ_34) ∧
      ((gI σ_34 223 o) = (-1) →
        wp_Store_pick cf tv o 0 (fun r_35 σ_36 => rZ r_35 → RK σ_36 →
        (¬ r_35 = 0 →
          lQ2 (wp_Store_makeRoom_L47 cf tv o Q K4) y1 y2 σ_36) ∧
        (r_35 = 0 →
          (y1 = 0 →
            lQ2 (wp_Store_makeRoom_L47 cf tv o Q K4) 1 y2 σ_36) ∧
          (¬ y1 = 0 →
            Q σ_36))) σ_34))) σ)
abbrev rm_Store_makeRoom : Room := { frames := 20, cells := 0, slots := 0, locals := 534 }
def wp_Store_makeRoom (cf : Cf) (tv : Nat → Int) (o : Int) (Q : St → Prop) (σ : St) : Prop :=
  lQ2 (wp_Store_makeRoom_L4 cf tv o Q) 0 0 σ
/-! Store.bud()V -/
def wp_Store_bud_b24 (cf : Cf) (tv : Nat → Int) (o : Int) (Q : St → Prop) (σ : St) : Prop :=
  wp_Store_makeRoom cf tv o (fun σ_15 => RK σ_15 →
  wp_Space_fetch cf tv o (fun r_16 σ_17 => rI r_16 → RK σ_17 →
  wp_Store_logBud cf tv o r_16 0 (fun σ_19 => RK σ_19 →
  wp_Writer_open cf tv o r_16 (fun σ_21 => RK σ_21 →
  Q σ_21) σ_19) σ_17) σ_15) σ
abbrev rm_Store_bud : Room := { frames := 21, cells := 0, slots := 0, locals := 556 }
def wp_Store_bud (cf : Cf) (tv : Nat → Int) (o : Int) (Q : St → Prop) (σ : St) : Prop :=
  wp_Store_sync cf tv o (fun σ_23 => RK σ_23 →
  ∀ σ_24, σ_24 = sI σ_23 451 o (-1) →
  (¬ (gI σ_24 211 o) = 4 →
    wp_Store_bud_b24 cf tv o Q σ_24) ∧
  ((gI σ_24 211 o) = 4 →
    wp_Store_commitAll cf tv o (fun σ_26 => RK σ_26 →
    wp_Store_bud_b24 cf tv o Q σ_26) σ_24)) σ
/-! Store.number(LNandHouse$Row;)V -/
def wp_Store_number_L4 (cf : Cf) (tv : Nat → Int) (o : Int) (x1 : Int) (Q : St → Prop) (K4 : Int → St → Prop) (y3 : Int) (σ : St) : Prop :=
  ((gI σ 514 x1) ≤ y3 →
    Q σ) ∧
  (¬ (gI σ 514 x1) ≤ y3 →
    ∀ σ_21, σ_21 = sI σ 513 x1 y3 →
    wp_Row_length cf tv x1 (fun r_22 σ_23 => rI r_22 → RK σ_23 →
    wp_Store_serial cf tv o (fun r_24 σ_25 => rJ r_24 → RK σ_25 →
    wp_Row_isLast cf tv x1 (fun r_26 σ_27 => rZ r_26 → RK σ_27 →
    wp_Row_close cf tv x1 r_24 r_26 (fun σ_29 => RK σ_29 →
    ∀ y3_30, y3_30 = w32 (y3 + r_22) →
    K4 y3_30 σ_29) σ_27) σ_25) σ_23) σ_21)
abbrev rm_Store_number : Room := { frames := 3, cells := 0, slots := 0, locals := 69 }
def wp_Store_number (cf : Cf) (tv : Nat → Int) (o : Int) (x1 : Int) (Q : St → Prop) (σ : St) : Prop :=
  lQ1 (wp_Store_number_L4 cf tv o x1 Q) 0 σ
/-! Store.hand(LNandHouse$Row;)V -/
def wp_Store_hand_L130 (cf : Cf) (tv : Nat → Int) (o : Int) (x1 : Int) (Q : St → Prop) (K130 : Int → Int → St → Prop) (y3 : Int) (y4 : Int) (σ : St) : Prop :=
  ((gI σ 205 o) ≤ y4 →
    ∀ σ_58, σ_58 = sI σ 205 o (w32 ((gI σ 205 o) - y3)) →
    Q σ_58) ∧
  (¬ (gI σ 205 o) ≤ y4 →
    ((0 : Int) ≤ y4 ∧ y4 < 128) ∧
    ((0 : Int) ≤ w32 (y4 - y3) ∧ w32 (y4 - y3) < 128) ∧
    ∀ σ_59, σ_59 = sA σ 204 o (w32 (y4 - y3)) (gA σ 204 o y4) →
    ∀ y4_60, y4_60 = w32 (y4 + 1) →
    K130 y3 y4_60 σ_59)
def wp_Store_hand_b127 (cf : Cf) (tv : Nat → Int) (o : Int) (x1 : Int) (Q : St → Prop) (y3 : Int) (σ : St) : Prop :=
  lQ2 (wp_Store_hand_L130 cf tv o x1 Q) y3 y3 σ
def wp_Store_hand_L103 (cf : Cf) (tv : Nat → Int) (o : Int) (x1 : Int) (Q : St → Prop) (K103 : Int → Int → St → Prop) (y2 : Int) (y3 : Int) (σ : St) : Prop :=
  ((gI σ 205 o) ≤ y3 →
    wp_Store_hand_b127 cf tv o x1 Q y3 σ) ∧
  (¬ (gI σ 205 o) ≤ y3 →
    ((0 : Int) ≤ y3 ∧ y3 < 128) ∧
    (y2 < (gA σ 204 o y3) →
      wp_Store_hand_b127 cf tv o x1 Q y3 σ) ∧
    (¬ y2 < (gA σ 204 o y3) →
      ∀ y3_61, y3_61 = w32 (y3 + 1) →
      K103 y2 y3_61 σ))
def wp_Store_hand_b22 (cf : Cf) (tv : Nat → Int) (o : Int) (x1 : Int) (Q : St → Prop) (σ : St) : Prop :=
  wp_Store_number cf tv o x1 (fun σ_63 => RK σ_63 →
  ∀ σ_64, σ_64 = sI σ_63 206 o (gI σ_63 451 o) →
  wp_Writer_put cf tv o 512 x1 0 (gI σ_64 514 x1) (fun r_65 σ_66 => rI r_65 → RK σ_66 →
  ∀ σ_67, σ_67 = sI σ_66 207 o r_65 →
  ∀ σ_68, σ_68 = sI σ_67 205 o (w32 ((gI σ_67 205 o) + 1)) →
  ((0 : Int) ≤ gI σ_67 205 o ∧ gI σ_67 205 o < 128) ∧
  ∀ σ_69, σ_69 = sA σ_68 204 o (gI σ_67 205 o) (gI σ_68 452 o) →
  ∀ y2_70, y2_70 = w32 ((gI σ_69 452 o) - (jrm (gI σ_69 452 o) 128)) →
  lQ2 (wp_Store_hand_L103 cf tv o x1 Q) y2_70 0 σ_69) σ_64) σ
abbrev rm_Store_hand : Room := { frames := 22, cells := 0, slots := 0, locals := 577 }
def wp_Store_hand (cf : Cf) (tv : Nat → Int) (o : Int) (x1 : Int) (Q : St → Prop) (σ : St) : Prop :=
  wp_Store_finish cf tv o (fun σ_72 => RK σ_72 →
  wp_Writer_takes cf tv o (gI σ_72 514 x1) (fun r_73 σ_74 => rZ r_73 → RK σ_74 →
  (¬ r_73 = 0 →
    wp_Store_hand_b22 cf tv o x1 Q σ_74) ∧
  (r_73 = 0 →
    wp_Store_bud cf tv o (fun σ_76 => RK σ_76 →
    wp_Store_hand_b22 cf tv o x1 Q σ_76) σ_74)) σ_72) σ
/-! Store.name(IZ)V -/
def wp_Store_name_b63 (cf : Cf) (tv : Nat → Int) (o : Int) (x1 : Int) (x2 : Int) (Q : St → Prop) (y3 : Int) (σ : St) : Prop :=
  (¬ y3 = (gI σ 218 o) →
    Q σ) ∧
  (y3 = (gI σ 218 o) →
    (x2 = 0 →
      Q σ) ∧
    (¬ x2 = 0 →
      ∀ σ_16, σ_16 = sI σ 218 o (w32 ((gI σ 218 o) + 1)) →
      ((0 : Int) ≤ gI σ 218 o ∧ gI σ 218 o < 16) ∧
      ∀ σ_17, σ_17 = sA σ_16 217 o (gI σ 218 o) x1 →
      Q σ_17))
def wp_Store_name_b26 (cf : Cf) (tv : Nat → Int) (o : Int) (x1 : Int) (x2 : Int) (Q : St → Prop) (y3 : Int) (σ : St) : Prop :=
  ((gI σ 218 o) ≤ y3 →
    wp_Store_name_b63 cf tv o x1 x2 Q y3 σ) ∧
  (¬ (gI σ 218 o) ≤ y3 →
    (¬ x2 = 0 →
      wp_Store_name_b63 cf tv o x1 x2 Q y3 σ) ∧
    (x2 = 0 →
      ∀ σ_18, σ_18 = sI σ 218 o (w32 ((gI σ 218 o) - 1)) →
      ((0 : Int) ≤ w32 ((gI σ 218 o) - 1) ∧ w32 ((gI σ 218 o) - 1) < 16) ∧
      ((0 : Int) ≤ y3 ∧ y3 < 16) ∧
      ∀ σ_19, σ_19 = sA σ_18 217 o y3 (gA σ_18 217 o (w32 ((gI σ 218 o) - 1))) →
      Q σ_19))
def wp_Store_name_L2 (cf : Cf) (tv : Nat → Int) (o : Int) (x1 : Int) (x2 : Int) (Q : St → Prop) (K2 : Int → St → Prop) (y3 : Int) (σ : St) : Prop :=
  ((gI σ 218 o) ≤ y3 →
    wp_Store_name_b26 cf tv o x1 x2 Q y3 σ) ∧
  (¬ (gI σ 218 o) ≤ y3 →
    ((0 : Int) ≤ y3 ∧ y3 < 16) ∧
    ((gA σ 217 o y3) = x1 →
      wp_Store_name_b26 cf tv o x1 x2 Q y3 σ) ∧
    (¬ (gA σ 217 o y3) = x1 →
      ∀ y3_20, y3_20 = w32 (y3 + 1) →
      K2 y3_20 σ))
abbrev rm_Store_name : Room := { frames := 0, cells := 0, slots := 0, locals := 0 }
def wp_Store_name (cf : Cf) (tv : Nat → Int) (o : Int) (x1 : Int) (x2 : Int) (Q : St → Prop) (σ : St) : Prop :=
  lQ1 (wp_Store_name_L2 cf tv o x1 x2 Q) 0 σ
/-! Store.shorten(II)V -/
def wp_Store_shorten_L11 (cf : Cf) (tv : Nat → Int) (o : Int) (x1 : Int) (x2 : Int) (Q : St → Prop) (K11 : Int → St → Prop) (y3 : Int) (σ : St) : Prop :=
  wp_House_keyOf cf tv x1 1 (fun r_10 σ_11 => rJ r_10 → RK σ_11 →
  wp_Index_seek cf tv o r_10 y3 (fun r_12 σ_13 => rZ r_12 → RK σ_13 →
  (r_12 = 0 →
    Q σ_13) ∧
  (¬ r_12 = 0 →
    wp_House_keyOf cf tv x1 1 (fun r_14 σ_15 => rJ r_14 → RK σ_15 →
    (¬ (gI σ_13 391 o) = r_14 →
      Q σ_15) ∧
    ((gI σ_13 391 o) = r_14 →
      wp_Index_remove cf tv o (gI σ_15 391 o) (gI σ_15 392 o) (fun σ_17 => RK σ_17 →
      K11 y3 σ_17) σ_15)) σ_13)) σ_11) σ
abbrev rm_Store_shorten : Room := { frames := 18, cells := 0, slots := 0, locals := 474 }
def wp_Store_shorten (cf : Cf) (tv : Nat → Int) (o : Int) (x1 : Int) (x2 : Int) (Q : St → Prop) (σ : St) : Prop :=
  ∀ y3_18, y3_18 = jdv (w32 ((w32 (x2 + 64)) - 1)) 64 →
  lQ1 (wp_Store_shorten_L11 cf tv o x1 x2 Q) y3_18 σ
/-! Store.forget(I)V -/
def wp_Store_forget_b62 (cf : Cf) (tv : Nat → Int) (o : Int) (x1 : Int) (Q : St → Prop) (σ : St) : Prop :=
  wp_House_keyOf cf tv x1 0 (fun r_15 σ_16 => rJ r_15 → RK σ_16 →
  wp_Index_remove cf tv o r_15 0 (fun σ_18 => RK σ_18 →
  Q σ_18) σ_16) σ
def wp_Store_forget_L6 (cf : Cf) (tv : Nat → Int) (o : Int) (x1 : Int) (Q : St → Prop) (K6 : St → Prop) (σ : St) : Prop :=
  wp_House_keyOf cf tv x1 3 (fun r_19 σ_20 => rJ r_19 → RK σ_20 →
  wp_Index_seek cf tv o r_19 0 (fun r_21 σ_22 => rZ r_21 → RK σ_22 →
  (r_21 = 0 →
    wp_Store_forget_b62 cf tv o x1 Q σ_22) ∧
  (¬ r_21 = 0 →
    wp_House_keyOf cf tv x1 3 (fun r_23 σ_24 => rJ r_23 → RK σ_24 →
    (¬ (gI σ_22 391 o) = r_23 →
      wp_Store_forget_b62 cf tv o x1 Q σ_24) ∧
    ((gI σ_22 391 o) = r_23 →
      wp_Index_remove cf tv o (gI σ_24 391 o) (gI σ_24 392 o) (fun σ_26 => RK σ_26 →
      K6 σ_26) σ_24)) σ_22)) σ_20) σ
abbrev rm_Store_forget : Room := { frames := 19, cells := 0, slots := 0, locals := 498 }
def wp_Store_forget (cf : Cf) (tv : Nat → Int) (o : Int) (x1 : Int) (Q : St → Prop) (σ : St) : Prop :=
  wp_Store_shorten cf tv o x1 0 (fun σ_28 => RK σ_28 →
  lQ0 (wp_Store_forget_L6 cf tv o x1 Q) σ_28) σ
/-! Store.apply(LNandHouse$Row;II)V -/
def wp_Store_apply_b154 (cf : Cf) (tv : Nat → Int) (o : Int) (x1 : Int) (x2 : Int) (x3 : Int) (Q : St → Prop) (y5 : Int) (σ : St) : Prop :=
  wp_Store_isLeaf cf tv y5 (fun r_40 σ_41 => rZ r_40 → RK σ_41 →
  (r_40 = 0 →
    Q σ_41) ∧
  (¬ r_40 = 0 →
    wp_Store_highOf cf tv x1 (fun r_42 σ_43 => rJ r_42 → RK σ_43 →
    wp_Store_lowOf cf tv x1 (fun r_44 σ_45 => rJ r_44 → RK σ_45 →
    wp_Row_length cf tv x1 (fun r_46 σ_47 => rI r_46 → RK σ_47 →
    wp_Index_put cf tv o r_42 r_44 x2 x3 r_46 (fun σ_49 => RK σ_49 →
    Q σ_49) σ_47) σ_45) σ_43) σ_41)) σ
def wp_Store_apply_b136 (cf : Cf) (tv : Nat → Int) (o : Int) (x1 : Int) (x2 : Int) (x3 : Int) (Q : St → Prop) (σ : St) : Prop :=
  wp_Store_highOf cf tv x1 (fun r_50 σ_51 => rJ r_50 → RK σ_51 →
  wp_Store_lowOf cf tv x1 (fun r_52 σ_53 => rJ r_52 → RK σ_53 →
  wp_Index_remove cf tv o r_50 r_52 (fun σ_55 => RK σ_55 →
  Q σ_55) σ_53) σ_51) σ
def wp_Store_apply_b120 (cf : Cf) (tv : Nat → Int) (o : Int) (x1 : Int) (x2 : Int) (x3 : Int) (Q : St → Prop) (K136 : St → Prop) (y5 : Int) (σ : St) : Prop :=
  (¬ y5 = 9 →
    wp_Store_apply_b154 cf tv o x1 x2 x3 Q y5 σ) ∧
  (y5 = 9 →
    wp_Row_get cf tv x1 4 (fun r_56 σ_57 => rI r_56 → RK σ_57 →
    (¬ r_56 = 1 →
      wp_Store_apply_b154 cf tv o x1 x2 x3 Q y5 σ_57) ∧
    (r_56 = 1 →
      K136 σ_57)) σ)
def wp_Store_apply_b106 (cf : Cf) (tv : Nat → Int) (o : Int) (x1 : Int) (x2 : Int) (x3 : Int) (Q : St → Prop) (y5 : Int) (σ : St) : Prop :=
  (¬ y5 = 2 →
    wp_Store_apply_b120 cf tv o x1 x2 x3 Q (wp_Store_apply_b136 cf tv o x1 x2 x3 Q) y5 σ) ∧
  (y5 = 2 →
    wp_Row_get cf tv x1 4 (fun r_58 σ_59 => rI r_58 → RK σ_59 →
    (r_58 = 0 →
      wp_Store_apply_b136 cf tv o x1 x2 x3 Q σ_59) ∧
    (¬ r_58 = 0 →
      wp_Store_apply_b120 cf tv o x1 x2 x3 Q (wp_Store_apply_b136 cf tv o x1 x2 x3 Q) y5 σ_59)) σ)
def wp_Store_apply_b59 (cf : Cf) (tv : Nat → Int) (o : Int) (x1 : Int) (x2 : Int) (x3 : Int) (Q : St → Prop) (K60 : Int → Int → Int → Int → St → Prop) (y4 : Int) (y5 : Int) (t0 : Int) (σ : St) : Prop :=
  K60 y4 y5 0 t0 σ
def wp_Store_apply_b60 (cf : Cf) (tv : Nat → Int) (o : Int) (x1 : Int) (x2 : Int) (x3 : Int) (Q : St → Prop) (K63 : Int → Int → St → Prop) (y4 : Int) (y5 : Int) (t0 : Int) (t1 : Int) (σ : St) : Prop :=
  wp_Store_name cf tv o t1 t0 (fun σ_61 => RK σ_61 →
  K63 y4 y5 σ_61) σ
def wp_Store_apply_b63 (cf : Cf) (tv : Nat → Int) (o : Int) (x1 : Int) (x2 : Int) (x3 : Int) (Q : St → Prop) (y4 : Int) (y5 : Int) (σ : St) : Prop :=
  (¬ y5 = 4 →
    (¬ y5 = 1 →
      wp_Store_apply_b106 cf tv o x1 x2 x3 Q y5 σ) ∧
    (y5 = 1 →
      wp_Row_get cf tv x1 4 (fun r_62 σ_63 => rI r_62 → RK σ_63 →
      (¬ r_62 = 0 →
        wp_Store_apply_b106 cf tv o x1 x2 x3 Q y5 σ_63) ∧
      (r_62 = 0 →
        wp_Store_forget cf tv o y4 (fun σ_65 => RK σ_65 →
        Q σ_65) σ_63)) σ)) ∧
  (y5 = 4 →
    wp_Row_get cf tv x1 4 (fun r_66 σ_67 => rI r_66 → RK σ_67 →
    wp_Store_shorten cf tv o y4 r_66 (fun σ_69 => RK σ_69 →
    Q σ_69) σ_67) σ)
abbrev rm_Store_apply : Room := { frames := 20, cells := 0, slots := 0, locals := 519 }
def wp_Store_apply (cf : Cf) (tv : Nat → Int) (o : Int) (x1 : Int) (x2 : Int) (x3 : Int) (Q : St → Prop) (σ : St) : Prop :=
  wp_Row_get cf tv x1 0 (fun r_70 σ_71 => rI r_70 → RK σ_71 →
  wp_Row_type cf tv x1 (fun r_72 σ_73 => rI r_72 → RK σ_73 →
  (¬ r_72 = 1 →
    wp_Store_apply_b63 cf tv o x1 x2 x3 Q r_70 r_72 σ_73) ∧
  (r_72 = 1 →
    ∀ σ_74, σ_74 = sI σ_73 203 o (max (gI σ_73 203 o) (w32 (r_70 + 1))) →
    wp_Row_get cf tv x1 4 (fun r_75 σ_76 => rI r_75 → RK σ_76 →
    (¬ r_75 = 2 →
      wp_Store_apply_b59 cf tv o x1 x2 x3 Q (wp_Store_apply_b60 cf tv o x1 x2 x3 Q (wp_Store_apply_b63 cf tv o x1 x2 x3 Q)) r_70 r_72 r_70 σ_76) ∧
    (r_75 = 2 →
      wp_Row_get cf tv x1 8 (fun r_77 σ_78 => rI r_77 → RK σ_78 →
      (¬ r_77 = 0 →
        wp_Store_apply_b59 cf tv o x1 x2 x3 Q (wp_Store_apply_b60 cf tv o x1 x2 x3 Q (wp_Store_apply_b63 cf tv o x1 x2 x3 Q)) r_70 r_72 r_70 σ_78) ∧
      (r_77 = 0 →
        wp_Store_apply_b60 cf tv o x1 x2 x3 Q (wp_Store_apply_b63 cf tv o x1 x2 x3 Q) r_70 r_72 1 r_70 σ_78)) σ_76)) σ_74)) σ_71) σ
/-! Store.lose()V -/
abbrev rm_Store_lose : Room := { frames := 1, cells := 0, slots := 0, locals := 20 }
def wp_Store_lose (cf : Cf) (tv : Nat → Int) (o : Int) (Q : St → Prop) (σ : St) : Prop :=
  wp_Writer_lose cf tv o (fun σ_12 => RK σ_12 →
  wp_Writer_lose cf tv (o + 2) (fun σ_14 => RK σ_14 →
  wp_Writer_lose cf tv (o + 4) (fun σ_16 => RK σ_16 →
  ∀ σ_17, σ_17 = sI σ_16 205 o 0 →
  ∀ σ_18, σ_18 = sI σ_17 213 o 0 →
  ∀ σ_19, σ_19 = sI σ_18 223 o (-1) →
  ∀ σ_20, σ_20 = sI σ_19 225 o 0 →
  Q σ_20) σ_14) σ_12) σ
/-! Store.load(III)LNandHouse$Knot; -/
def wp_Store_load_L222 (cf : Cf) (tv : Nat → Int) (o : Int) (x1 : Int) (x2 : Int) (x3 : Int) (F : Int → Int → Int → Int → (Int → St → Prop) → St → Prop) (Q : Int → St → Prop) (K222 : Int → Int → St → Prop) (y4 : Int) (y5 : Int) (σ : St) : Prop :=
  0 ≤ y4 ∧
  ((gI σ 577 y4) ≤ y5 →
    Q y4 σ) ∧
  (¬ (gI σ 577 y4) ≤ y5 →
    ((gI σ 576 y4) ≤ 0 →
      Q y4 σ) ∧
    (¬ (gI σ 576 y4) ≤ 0 →
      ((0 : Int) ≤ y5 ∧ y5 < 9) ∧
      ((0 : Int) ≤ y5 ∧ y5 < 9) ∧
      ((0 : Int) ≤ y5 ∧ y5 < 9) ∧
      F o (gA σ 580 y4 y5) (gA σ 581 y4 y5) (gA σ 582 y4 y5) (fun r_82 σ_83 => rK r_82 → RK σ_83 →
      ((0 : Int) ≤ y5 ∧ y5 < 9) ∧
      ∀ σ_84, σ_84 = sA σ_83 583 y4 y5 r_82 →
      ∀ y5_85, y5_85 = w32 (y5 + 1) →
      K222 y4 y5_85 σ_84) σ))
def wp_Store_load_L72 (cf : Cf) (tv : Nat → Int) (o : Int) (x1 : Int) (x2 : Int) (x3 : Int) (F : Int → Int → Int → Int → (Int → St → Prop) → St → Prop) (Q : Int → St → Prop) (K72 : Int → Int → St → Prop) (y4 : Int) (y5 : Int) (σ : St) : Prop :=
  0 ≤ y4 ∧
  ((gI σ 577 y4) ≤ y5 →
    ∀ σ_87, σ_87 = sI σ 584 y4 0 →
    ∀ σ_88, σ_88 = sI σ_87 585 y4 x1 →
    ∀ σ_89, σ_89 = sI σ_88 586 y4 x2 →
    ∀ σ_90, σ_90 = sI σ_89 587 y4 x3 →
    lQ2 (wp_Store_load_L222 cf tv o x1 x2 x3 F Q) y4 0 σ_90) ∧
  (¬ (gI σ 577 y4) ≤ y5 →
    wp_Row_getLongAt cf tv o (w32 (8 + (w32 (28 * y5)))) (fun r_91 σ_92 => rJ r_91 → RK σ_92 →
    wp_Row_getLongAt cf tv o (w32 (16 + (w32 (28 * y5)))) (fun r_93 σ_94 => rJ r_93 → RK σ_94 →
    wp_Knot_set cf tv y4 y5 r_91 r_93 (-1) (fun σ_96 => RK σ_96 →
    wp_Row_get cf tv o (w32 (24 + (w32 (28 * y5)))) (fun r_97 σ_98 => rI r_97 → RK σ_98 →
    ((0 : Int) ≤ y5 ∧ y5 < 9) ∧
    ∀ σ_99, σ_99 = sA σ_98 580 y4 y5 r_97 →
    wp_Row_get cf tv o (w32 (28 + (w32 (28 * y5)))) (fun r_100 σ_101 => rI r_100 → RK σ_101 →
    ((0 : Int) ≤ y5 ∧ y5 < 9) ∧
    ∀ σ_102, σ_102 = sA σ_101 581 y4 y5 r_100 →
    wp_Row_get cf tv o (w32 (32 + (w32 (28 * y5)))) (fun r_103 σ_104 => rI r_103 → RK σ_104 →
    ((0 : Int) ≤ y5 ∧ y5 < 9) ∧
    ∀ σ_105, σ_105 = sA σ_104 582 y4 y5 r_103 →
    ∀ y5_106, y5_106 = w32 (y5 + 1) →
    K72 y4 y5_106 σ_105) σ_102) σ_99) σ_96) σ_94) σ_92) σ)
def rm_Store_load (n : Nat) : Room := { frames := 5 + 1 * n, cells := 0, slots := 0, locals := 180 + 25 * n }
def wp_Store_load_R (cf : Cf) (tv : Nat → Int) (o : Int) (x1 : Int) (x2 : Int) (x3 : Int) (F : Int → Int → Int → Int → (Int → St → Prop) → St → Prop) (Q : Int → St → Prop) (σ : St) : Prop :=
  wp_Store_read cf tv o x1 x2 x3 o (fun σ_108 => RK σ_108 →
  wp_Row_serial cf tv o (fun r_109 σ_110 => rJ r_109 → RK σ_110 →
  ∀ σ_111, σ_111 = sI σ_110 202 o (max (gI σ_108 202 o) r_109) →
  ((0 : Int) ≤ x1 ∧ x1 < (cf.1 - 6)) ∧
  ∀ σ_112, σ_112 = sA σ_111 325 o x1 1 →
  wp_Row_get cf tv o 0 (fun r_113 σ_114 => rI r_113 → RK σ_114 →
  wp_Index_fetch cf tv o r_113 (fun r_115 σ_116 => rK r_115 → RK σ_116 →
  wp_Row_get cf tv o 4 (fun r_117 σ_118 => rI r_117 → RK σ_118 →
  0 ≤ r_115 ∧
  ∀ σ_120, σ_120 = sI σ_118 577 r_115 r_117 →
  lQ2 (wp_Store_load_L72 cf tv o x1 x2 x3 F Q) r_115 0 σ_120) σ_116) σ_114) σ_112) σ_108) σ
def wp_Store_load (cf : Cf) (tv : Nat → Int) : Nat → Int → Int → Int → Int → (Int → St → Prop) → St → Prop
  | 0 => fun _ _ _ _ _ _ => False
  | n + 1 => fun o x1 x2 x3 Q σ => wp_Store_load_R cf tv o x1 x2 x3 (wp_Store_load cf tv n) Q σ
/-! Store.readOrphans()V -/
def wp_Store_readOrphans_L41 (cf : Cf) (tv : Nat → Int) (o : Int) (Q : St → Prop) (K41 : Int → St → Prop) (y1 : Int) (σ : St) : Prop :=
  ((gI σ 218 o) ≤ y1 →
    Q σ) ∧
  (¬ (gI σ 218 o) ≤ y1 →
    wp_Row_get cf tv (o + 4) (w32 (8 + (w32 (4 * y1)))) (fun r_23 σ_24 => rI r_23 → RK σ_24 →
    ((0 : Int) ≤ y1 ∧ y1 < 16) ∧
    ∀ σ_25, σ_25 = sA σ_24 217 o y1 r_23 →
    ∀ y1_26, y1_26 = w32 (y1 + 1) →
    K41 y1_26 σ_25) σ)
abbrev rm_Store_readOrphans : Room := { frames := 3, cells := 0, slots := 0, locals := 131 }
def wp_Store_readOrphans (cf : Cf) (tv : Nat → Int) (o : Int) (Q : St → Prop) (σ : St) : Prop :=
  wp_Blocks_read cf tv o (gI σ 208 o) 0 512 (o + 4) 0 (fun σ_28 => RK σ_28 →
  wp_Row_clear cf tv (o + 4) (fun σ_30 => RK σ_30 →
  wp_Row_get cf tv (o + 4) 4 (fun r_31 σ_32 => rI r_31 → RK σ_32 →
  ∀ σ_33, σ_33 = sI σ_32 218 o r_31 →
  lQ1 (wp_Store_readOrphans_L41 cf tv o Q) 0 σ_33) σ_30) σ_28) σ
/-! Store.redo(II)I -/
abbrev rm_Store_redo : Room := { frames := 21, cells := 0, slots := 0, locals := 544 }
def wp_Store_redo (cf : Cf) (tv : Nat → Int) (o : Int) (x1 : Int) (x2 : Int) (Q : Int → St → Prop) (σ : St) : Prop :=
  wp_Store_look cf tv o x1 x2 o (fun r_5 σ_6 => rI r_5 → RK σ_6 →
  wp_Store_apply cf tv o o x1 x2 (fun σ_8 => RK σ_8 →
  Q r_5 σ_8) σ_6) σ
/-! Store.replayBud(IIJ)V -/
def wp_Store_replayBud_L100 (cf : Cf) (tv : Nat → Int) (o : Int) (x1 : Int) (x2 : Int) (x3 : Int) (Q : St → Prop) (K141 : Int → Int → Int → St → Prop) (K100 : Int → Int → Int → St → Prop) (y5 : Int) (y6 : Int) (y7 : Int) (σ : St) : Prop :=
  (y6 ≤ y5 →
    ∀ σ_18, σ_18 = sI σ 228 o y7 →
    ∀ σ_19, σ_19 = sI σ_18 202 o (max (gI σ_18 202 o) y7) →
    K141 y5 y6 y7 σ_19) ∧
  (¬ y6 ≤ y5 →
    wp_Store_redo cf tv o x1 y5 (fun r_20 σ_21 => rI r_20 → RK σ_21 →
    ∀ y5_22, y5_22 = w32 (y5 + r_20) →
    K100 y5_22 y6 y7 σ_21) σ)
def wp_Store_replayBud_b141 (cf : Cf) (tv : Nat → Int) (o : Int) (x1 : Int) (x2 : Int) (x3 : Int) (Q : St → Prop) (K16 : Int → Int → Int → St → Prop) (y5 : Int) (y6 : Int) (y7 : Int) (σ : St) : Prop :=
  K16 y5 y6 y7 σ
def wp_Store_replayBud_b55 (cf : Cf) (tv : Nat → Int) (o : Int) (x1 : Int) (x2 : Int) (x3 : Int) (Q : St → Prop) (K16 : Int → Int → Int → St → Prop) (y5 : Int) (y6 : Int) (y7 : Int) (y9 : Int) (σ : St) : Prop :=
  (y9 ≤ 0 →
    Q σ) ∧
  (¬ y9 ≤ 0 →
    wp_Row_serial cf tv o (fun r_23 σ_24 => rJ r_23 → RK σ_24 →
    (y7 < r_23 →
      wp_Row_serial cf tv o (fun r_25 σ_26 => rJ r_25 → RK σ_26 →
      ∀ y6_27, y6_27 = w32 (y6 + y9) →
      wp_Row_isLast cf tv o (fun r_28 σ_29 => rZ r_28 → RK σ_29 →
      (r_28 = 0 →
        wp_Store_replayBud_b141 cf tv o x1 x2 x3 Q K16 y5 y6_27 r_25 σ_29) ∧
      (¬ r_28 = 0 →
        lQ3 (wp_Store_replayBud_L100 cf tv o x1 x2 x3 Q (wp_Store_replayBud_b141 cf tv o x1 x2 x3 Q K16)) y5 y6_27 r_25 σ_29)) σ_26) σ_24) ∧
    (¬ y7 < r_23 →
      Q σ_24)) σ)
def wp_Store_replayBud_L16 (cf : Cf) (tv : Nat → Int) (o : Int) (x1 : Int) (x2 : Int) (x3 : Int) (Q : St → Prop) (K16 : Int → Int → Int → St → Prop) (y5 : Int) (y6 : Int) (y7 : Int) (σ : St) : Prop :=
  wp_Store_look cf tv o x1 y6 o (fun r_30 σ_31 => rI r_30 → RK σ_31 →
  (¬ r_30 = 0 →
    wp_Store_replayBud_b55 cf tv o x1 x2 x3 Q K16 y5 y6 y7 r_30 σ_31) ∧
  (r_30 = 0 →
    (¬ y5 = y6 →
      wp_Store_replayBud_b55 cf tv o x1 x2 x3 Q K16 y5 y6 y7 r_30 σ_31) ∧
    (y5 = y6 →
      wp_Store_behindPage cf tv y6 (fun r_32 σ_33 => rI r_32 → RK σ_33 →
      K16 r_32 r_32 y7 σ_33) σ_31))) σ
abbrev rm_Store_replayBud : Room := { frames := 22, cells := 0, slots := 0, locals := 567 }
def wp_Store_replayBud (cf : Cf) (tv : Nat → Int) (o : Int) (x1 : Int) (x2 : Int) (x3 : Int) (Q : St → Prop) (σ : St) : Prop :=
  ∀ y7_34, y7_34 = max (gI σ 228 o) x3 →
  lQ3 (wp_Store_replayBud_L16 cf tv o x1 x2 x3 Q) x2 x2 y7_34 σ
/-! Store.replay(II)V -/
def wp_Store_replay_b231 (cf : Cf) (tv : Nat → Int) (o : Int) (x1 : Int) (x2 : Int) (Q : St → Prop) (K100 : Int → Int → Int → St → Prop) (y3 : Int) (y5 : Int) (y6 : Int) (σ : St) : Prop :=
  ∀ y6_112, y6_112 = w32 (y6 + 1) →
  K100 y3 y5 y6_112 σ
def wp_Store_replay_b184 (cf : Cf) (tv : Nat → Int) (o : Int) (x1 : Int) (x2 : Int) (Q : St → Prop) (K185 : Int → Int → Int → St → Prop) (y3 : Int) (y6 : Int) (σ : St) : Prop :=
  K185 y3 y6 0 σ
def wp_Store_replay_b185 (cf : Cf) (tv : Nat → Int) (o : Int) (x1 : Int) (x2 : Int) (Q : St → Prop) (K100 : Int → Int → Int → St → Prop) (y3 : Int) (y6 : Int) (t0 : Int) (σ : St) : Prop :=
  (t0 = 0 →
    wp_Store_replay_b231 cf tv o x1 x2 Q K100 y3 t0 y6 σ) ∧
  (¬ t0 = 0 →
    wp_Row_serial cf tv (o + 4) (fun r_113 σ_114 => rJ r_113 → RK σ_114 →
    ∀ σ_115, σ_115 = sI σ_114 202 o (max (gI σ 202 o) r_113) →
    wp_Row_get cf tv (o + 4) 0 (fun r_116 σ_117 => rI r_116 → RK σ_117 →
    wp_Row_get cf tv (o + 4) 4 (fun r_118 σ_119 => rI r_118 → RK σ_119 →
    wp_Store_replayBud cf tv o r_116 r_118 y3 (fun σ_121 => RK σ_121 →
    wp_Store_replay_b231 cf tv o x1 x2 Q K100 y3 t0 y6 σ_121) σ_119) σ_117) σ_115) σ)
def wp_Store_replay_L100 (cf : Cf) (tv : Nat → Int) (o : Int) (x1 : Int) (x2 : Int) (Q : St → Prop) (K100 : Int → Int → Int → St → Prop) (y3 : Int) (y5 : Int) (y6 : Int) (σ : St) : Prop :=
  wp_Blocks_written cf tv o x1 (fun r_122 σ_123 => rI r_122 → RK σ_123 →
  (r_122 ≤ y6 →
    Q σ_123) ∧
  (¬ r_122 ≤ y6 →
    (y5 = 0 →
      Q σ_123) ∧
    (¬ y5 = 0 →
      wp_Blocks_read cf tv o x1 y6 512 (o + 4) 0 (fun σ_125 => RK σ_125 →
      wp_Row_clear cf tv (o + 4) (fun σ_127 => RK σ_127 →
      wp_Row_isWhole cf tv (o + 4) 128 (fun r_128 σ_129 => rZ r_128 → RK σ_129 →
      (r_128 = 0 →
        wp_Store_replay_b184 cf tv o x1 x2 Q (wp_Store_replay_b185 cf tv o x1 x2 Q K100) y3 y6 σ_129) ∧
      (¬ r_128 = 0 →
        wp_Row_type cf tv (o + 4) (fun r_130 σ_131 => rI r_130 → RK σ_131 →
        (¬ r_130 = 8 →
          wp_Store_replay_b184 cf tv o x1 x2 Q (wp_Store_replay_b185 cf tv o x1 x2 Q K100) y3 y6 σ_131) ∧
        (r_130 = 8 →
          wp_Row_serial cf tv (o + 4) (fun r_132 σ_133 => rJ r_132 → RK σ_133 →
          (r_132 ≤ y3 →
            wp_Store_replay_b184 cf tv o x1 x2 Q (wp_Store_replay_b185 cf tv o x1 x2 Q K100) y3 y6 σ_133) ∧
          (¬ r_132 ≤ y3 →
            wp_Store_replay_b185 cf tv o x1 x2 Q K100 y3 y6 1 σ_133)) σ_131)) σ_129)) σ_127) σ_125) σ_123))) σ
abbrev rm_Store_replay : Room := { frames := 23, cells := 0, slots := 0, locals := 596 }
def wp_Store_replay (cf : Cf) (tv : Nat → Int) (o : Int) (x1 : Int) (x2 : Int) (Q : St → Prop) (σ : St) : Prop :=
  wp_Blocks_written cf tv o x1 (fun r_134 σ_135 => rI r_134 → RK σ_135 →
  (¬ r_134 = 0 →
    wp_Blocks_read cf tv o x1 0 512 (o + 4) 0 (fun σ_137 => RK σ_137 →
    wp_Row_clear cf tv (o + 4) (fun σ_139 => RK σ_139 →
    wp_Row_isWhole cf tv (o + 4) 128 (fun r_140 σ_141 => rZ r_140 → RK σ_141 →
    (r_140 = 0 →
      Q σ_141) ∧
    (¬ r_140 = 0 →
      wp_Row_type cf tv (o + 4) (fun r_142 σ_143 => rI r_142 → RK σ_143 →
      (¬ r_142 = 7 →
        Q σ_143) ∧
      (r_142 = 7 →
        wp_Row_get cf tv (o + 4) 0 (fun r_144 σ_145 => rI r_144 → RK σ_145 →
        (r_144 = x2 →
          wp_Row_serial cf tv (o + 4) (fun r_146 σ_147 => rJ r_146 → RK σ_147 →
          ∀ σ_148, σ_148 = sI σ_147 202 o (max (gI σ_147 202 o) r_146) →
          lQ3 (wp_Store_replay_L100 cf tv o x1 x2 Q) r_146 1 1 σ_148) σ_145) ∧
        (¬ r_144 = x2 →
          Q σ_145)) σ_143)) σ_141)) σ_139) σ_137) σ_135) ∧
  (r_134 = 0 →
    Q σ_135)) σ
/-! Store.find()V -/
def wp_Store_find_b242 (cf : Cf) (tv : Nat → Int) (o : Int) (Q : St → Prop) (K44 : Int → Int → Int → St → Prop) (y1 : Int) (y3 : Int) (y4 : Int) (σ : St) : Prop :=
  ∀ y4_223, y4_223 = w32 (y4 + 1) →
  K44 y1 y3 y4_223 σ
def wp_Store_find_L323 (cf : Cf) (tv : Nat → Int) (o : Int) (Q : St → Prop) (K323 : Int → St → Prop) (y3 : Int) (σ : St) : Prop :=
  ((cf.1 - 6) ≤ y3 →
    wp_Row_serial cf tv o (fun r_224 σ_225 => rJ r_224 → RK σ_225 →
    ∀ σ_226, σ_226 = sI σ_225 202 o (max (gI σ 202 o) r_224) →
    wp_Store_readOrphans cf tv o (fun σ_228 => RK σ_228 →
    wp_Store_replay cf tv o (gI σ_228 208 o) (gI σ_228 212 o) (fun σ_230 => RK σ_230 →
    wp_Store_replay cf tv o (w32 (5 - (gI σ_230 208 o))) (w32 ((gI σ_230 212 o) + 1)) (fun σ_232 => RK σ_232 →
    Q σ_232) σ_230) σ_228) σ_226) σ) ∧
  (¬ (cf.1 - 6) ≤ y3 →
    wp_Row_get cf tv o (w32 (4 * (w32 (y3 - (4 + cf.2.2))))) (fun r_233 σ_234 => rI r_233 → RK σ_234 →
    ((0 : Int) ≤ y3 ∧ y3 < (cf.1 - 6)) ∧
    ∀ σ_235, σ_235 = sA σ_234 324 o y3 r_233 →
    ∀ y3_236, y3_236 = w32 (y3 + 1) →
    K323 y3_236 σ_235) σ)
def wp_Store_find_L44 (cf : Cf) (tv : Nat → Int) (o : Int) (Q : St → Prop) (K36 : Int → Int → St → Prop) (K44 : Int → Int → Int → St → Prop) (y1 : Int) (y3 : Int) (y4 : Int) (σ : St) : Prop :=
  wp_Blocks_written cf tv o y3 (fun r_237 σ_238 => rI r_237 → RK σ_238 →
  (r_237 ≤ y4 →
    ∀ y3_239, y3_239 = w32 (y3 + 1) →
    K36 y1 y3_239 σ_238) ∧
  (¬ r_237 ≤ y4 →
    wp_Blocks_read cf tv o y3 y4 512 (o + 4) 0 (fun σ_241 => RK σ_241 →
    wp_Row_clear cf tv (o + 4) (fun σ_243 => RK σ_243 →
    wp_Row_isWhole cf tv (o + 4) 128 (fun r_244 σ_245 => rZ r_244 → RK σ_245 →
    (r_244 = 0 →
      wp_Store_find_b242 cf tv o Q K44 y1 y3 y4 σ_245) ∧
    (¬ r_244 = 0 →
      wp_Row_type cf tv (o + 4) (fun r_246 σ_247 => rI r_246 → RK σ_247 →
      (¬ r_246 = 6 →
        wp_Store_find_b242 cf tv o Q K44 y1 y3 y4 σ_247) ∧
      (r_246 = 6 →
        wp_Row_serial cf tv (o + 4) (fun r_248 σ_249 => rJ r_248 → RK σ_249 →
        (r_248 ≤ y1 →
          wp_Store_find_b242 cf tv o Q K44 y1 y3 y4 σ_249) ∧
        (¬ r_248 ≤ y1 →
          wp_Row_serial cf tv (o + 4) (fun r_250 σ_251 => rJ r_250 → RK σ_251 →
          wp_Row_get cf tv (o + 4) 0 (fun r_252 σ_253 => rI r_252 → RK σ_253 →
          ∀ σ_254, σ_254 = sI σ_253 212 o r_252 →
          wp_Row_get cf tv (o + 4) 4 (fun r_255 σ_256 => rI r_255 → RK σ_256 →
          ∀ σ_257, σ_257 = sI σ_256 208 o r_255 →
          wp_Row_get cf tv (o + 4) 8 (fun r_258 σ_259 => rI r_258 → RK σ_259 →
          ∀ σ_260, σ_260 = sI σ_259 206 o r_258 →
          wp_Row_get cf tv (o + 4) 12 (fun r_261 σ_262 => rI r_261 → RK σ_262 →
          ∀ σ_263, σ_263 = sI σ_262 207 o r_261 →
          wp_Row_get cf tv (o + 4) 16 (fun r_264 σ_265 => rI r_264 → RK σ_265 →
          ∀ σ_266, σ_266 = sI σ_265 221 o r_264 →
          wp_Row_get cf tv (o + 4) 20 (fun r_267 σ_268 => rI r_267 → RK σ_268 →
          ∀ σ_269, σ_269 = sI σ_268 203 o r_267 →
          wp_Row_get cf tv (o + 4) 24 (fun r_270 σ_271 => rI r_270 → RK σ_271 →
          ∀ σ_272, σ_272 = sI σ_271 214 o r_270 →
          wp_Row_get cf tv (o + 4) 28 (fun r_273 σ_274 => rI r_273 → RK σ_274 →
          ∀ σ_275, σ_275 = sI σ_274 215 o r_273 →
          wp_Row_get cf tv (o + 4) 32 (fun r_276 σ_277 => rI r_276 → RK σ_277 →
          ∀ σ_278, σ_278 = sI σ_277 216 o r_276 →
          wp_Store_find_b242 cf tv o Q K44 r_250 y3 y4 σ_278) σ_275) σ_272) σ_269) σ_266) σ_263) σ_260) σ_257) σ_254) σ_251) σ_249)) σ_247)) σ_245)) σ_243) σ_241) σ_238)) σ
def wp_Store_find_L36 (cf : Cf) (tv : Nat → Int) (o : Int) (Q : St → Prop) (K36 : Int → Int → St → Prop) (y1 : Int) (y3 : Int) (σ : St) : Prop :=
  (2 ≤ y3 →
    ∀ σ_279, σ_279 = sI σ 202 o y1 →
    wp_Store_load cf tv 12 o (gI σ_279 206 o) (gI σ_279 207 o) (gI σ_279 221 o) (fun r_280 σ_281 => rK r_280 → RK σ_281 →
    wp_Index_plant cf tv o r_280 (fun σ_283 => RK σ_283 →
    wp_Store_read cf tv o (gI σ_283 214 o) (gI σ_283 215 o) (gI σ_283 216 o) o (fun σ_285 => RK σ_285 →
    ((0 : Int) ≤ gI σ_285 214 o ∧ gI σ_285 214 o < (cf.1 - 6)) ∧
    ∀ σ_286, σ_286 = sA σ_285 325 o (gI σ_285 214 o) 1 →
    ∀ y3_287, y3_287 = (4 + cf.2.2) →
    lQ1 (wp_Store_find_L323 cf tv o Q) y3_287 σ_286) σ_283) σ_281) σ_279) ∧
  (¬ 2 ≤ y3 →
    lQ3 (wp_Store_find_L44 cf tv o Q K36) y1 y3 0 σ)
abbrev rm_Store_find : Room := { frames := 24, cells := 0, slots := 0, locals := 622 }
def wp_Store_find (cf : Cf) (tv : Nat → Int) (o : Int) (Q : St → Prop) (σ : St) : Prop :=
  wp_Store_lose cf tv o (fun σ_289 => RK σ_289 →
  ∀ σ_290, σ_290 = sI σ_289 228 o 0 →
  wp_Blocks_attach cf tv o (fun σ_292 => RK σ_292 →
  wp_Space_clear cf tv o (fun σ_294 => RK σ_294 →
  wp_Index_clear cf tv o (fun σ_296 => RK σ_296 →
  lQ2 (wp_Store_find_L36 cf tv o Q) (-1) 0 σ_296) σ_294) σ_292) σ_290) σ
/-! Store.settle()V -/
def wp_Store_settle_b65 (cf : Cf) (tv : Nat → Int) (o : Int) (Q : St → Prop) (K8 : Int → St → Prop) (y1 : Int) (σ : St) : Prop :=
  ∀ y1_10, y1_10 = w32 (y1 + 1) →
  K8 y1_10 σ
def wp_Store_settle_L8 (cf : Cf) (tv : Nat → Int) (o : Int) (Q : St → Prop) (K8 : Int → St → Prop) (y1 : Int) (σ : St) : Prop :=
  ((cf.1 - 6) ≤ y1 →
    ∀ σ_11, σ_11 = sI σ 211 o 0 →
    ∀ σ_12, σ_12 = sI σ_11 202 o (w64 ((gI σ_11 202 o) + 1000)) →
    wp_Store_commitAll cf tv o (fun σ_14 => RK σ_14 →
    Q σ_14) σ_12) ∧
  (¬ (cf.1 - 6) ≤ y1 →
    ((0 : Int) ≤ y1 ∧ y1 < (cf.1 - 6)) ∧
    ((0 : Int) ≤ y1 ∧ y1 < (cf.1 - 6)) ∧
    ∀ σ_15, σ_15 = sA σ 323 o y1 (if (gA σ 324 o y1) ≤ 0 then (0 : Int) else (1 : Int)) →
    ((0 : Int) ≤ y1 ∧ y1 < (cf.1 - 6)) ∧
    (¬ (gA σ_15 323 o y1) = 0 →
      wp_Store_settle_b65 cf tv o Q K8 y1 σ_15) ∧
    ((gA σ_15 323 o y1) = 0 →
      wp_Blocks_drop cf tv o y1 (fun σ_17 => RK σ_17 →
      wp_Store_settle_b65 cf tv o Q K8 y1 σ_17) σ_15))
abbrev rm_Store_settle : Room := { frames := 17, cells := 0, slots := 0, locals := 405 }
def wp_Store_settle (cf : Cf) (tv : Nat → Int) (o : Int) (Q : St → Prop) (σ : St) : Prop :=
  ∀ y1_18, y1_18 = (4 + cf.2.2) →
  lQ1 (wp_Store_settle_L8 cf tv o Q) y1_18 σ
/-! Store.mayMove()Z -/
def wp_Store_mayMove_b47 (cf : Cf) (tv : Nat → Int) (o : Int) (Q : Int → St → Prop) (σ : St) : Prop :=
  Q 1 σ
abbrev rm_Store_mayMove : Room := { frames := 1, cells := 0, slots := 0, locals := 22 }
def wp_Store_mayMove (cf : Cf) (tv : Nat → Int) (o : Int) (Q : Int → St → Prop) (σ : St) : Prop :=
  wp_Writer_takes cf tv (o + 2) 320 (fun r_7 σ_8 => rZ r_7 → RK σ_8 →
  (¬ r_7 = 0 →
    wp_Store_mayMove_b47 cf tv o Q σ_8) ∧
  (r_7 = 0 →
    wp_Space_empty cf tv o (fun r_9 σ_10 => rI r_9 → RK σ_10 →
    (r_9 ≤ (w32 ((whl cf) + 1)) →
      Q 0 σ_10) ∧
    (¬ r_9 ≤ (w32 ((whl cf) + 1)) →
      wp_Space_roomy cf tv o (fun r_11 σ_12 => rI r_11 → RK σ_12 →
      (r_11 ≤ (w32 ((w32 (2 * (whl cf))) + 2)) →
        Q 0 σ_12) ∧
      (¬ r_11 ≤ (w32 ((w32 (2 * (whl cf))) + 2)) →
        wp_Store_mayMove_b47 cf tv o Q σ_12)) σ_10)) σ_8)) σ
/-! Store.choose()V -/
def wp_Store_choose_b22 (cf : Cf) (tv : Nat → Int) (o : Int) (Q : St → Prop) (σ : St) : Prop :=
  (¬ (gI σ 223 o) = (-1) →
    Q σ) ∧
  ((gI σ 223 o) = (-1) →
    wp_Space_empty cf tv o (fun r_8 σ_9 => rI r_8 → RK σ_9 →
    ((jdv (cf.1 - 6) 3) ≤ r_8 →
      Q σ_9) ∧
    (¬ (jdv (cf.1 - 6) 3) ≤ r_8 →
      wp_Store_pick cf tv o 1 (fun r_10 σ_11 => rZ r_10 → RK σ_11 →
      (r_10 = 0 →
        Q σ_11) ∧
      (¬ r_10 = 0 →
        ∀ σ_12, σ_12 = sI σ_11 225 o 0 →
        Q σ_12)) σ_9)) σ)
abbrev rm_Store_choose : Room := { frames := 16, cells := 0, slots := 0, locals := 360 }
def wp_Store_choose (cf : Cf) (tv : Nat → Int) (o : Int) (Q : St → Prop) (σ : St) : Prop :=
  (¬ (gI σ 205 o) = 0 →
    wp_Store_choose_b22 cf tv o Q σ) ∧
  ((gI σ 205 o) = 0 →
    ((gI σ 211 o) < 3 →
      wp_Store_choose_b22 cf tv o Q σ) ∧
    (¬ (gI σ 211 o) < 3 →
      wp_Store_beginCommit cf tv o (fun σ_14 => RK σ_14 →
      Q σ_14) σ))
/-! Store.work()V -/
def wp_Store_work_b72 (cf : Cf) (tv : Nat → Int) (o : Int) (Q : St → Prop) (σ : St) : Prop :=
  wp_Blocks_eraseOne cf tv o (fun r_15 σ_16 => rZ r_15 → RK σ_16 →
  (¬ r_15 = 0 →
    Q σ_16) ∧
  (r_15 = 0 →
    wp_Blocks_moveStep cf tv o (fun r_17 σ_18 => rZ r_17 → RK σ_18 →
    (¬ r_17 = 0 →
      Q σ_18) ∧
    (r_17 = 0 →
      wp_Store_choose cf tv o (fun σ_20 => RK σ_20 →
      Q σ_20) σ_18)) σ_16)) σ
def wp_Store_work_b43 (cf : Cf) (tv : Nat → Int) (o : Int) (Q : St → Prop) (σ : St) : Prop :=
  ((gI σ 223 o) = (-1) →
    wp_Store_work_b72 cf tv o Q σ) ∧
  (¬ (gI σ 223 o) = (-1) →
    ((gI σ 225 o) = 0 →
      wp_Store_work_b72 cf tv o Q σ) ∧
    (¬ (gI σ 225 o) = 0 →
      (¬ (gI σ 205 o) = 0 →
        wp_Store_work_b72 cf tv o Q σ) ∧
      ((gI σ 205 o) = 0 →
        wp_Store_beginCommit cf tv o (fun σ_22 => RK σ_22 →
        Q σ_22) σ)))
abbrev rm_Store_work : Room := { frames := 20, cells := 0, slots := 0, locals := 534 }
def wp_Store_work (cf : Cf) (tv : Nat → Int) (o : Int) (Q : St → Prop) (σ : St) : Prop :=
  ((gI σ 213 o) = 0 →
    ((gI σ 223 o) = (-1) →
      wp_Store_work_b43 cf tv o Q σ) ∧
    (¬ (gI σ 223 o) = (-1) →
      (¬ (gI σ 225 o) = 0 →
        wp_Store_work_b43 cf tv o Q σ) ∧
      ((gI σ 225 o) = 0 →
        wp_Store_mayMove cf tv o (fun r_23 σ_24 => rZ r_23 → RK σ_24 →
        (r_23 = 0 →
          wp_Store_work_b43 cf tv o Q σ_24) ∧
        (¬ r_23 = 0 →
          wp_Store_collectStep cf tv o (fun σ_26 => RK σ_26 →
          Q σ_26) σ_24)) σ))) ∧
  (¬ (gI σ 213 o) = 0 →
    wp_Store_commitStep cf tv o (fun σ_28 => RK σ_28 →
    Q σ_28) σ)
/-! Store.place()I -/
abbrev rm_Store_place : Room := { frames := 0, cells := 0, slots := 0, locals := 0 }
def wp_Store_place (cf : Cf) (tv : Nat → Int) (o : Int) (Q : Int → St → Prop) (σ : St) : Prop :=
  (¬ (gI σ 451 o) = (-1) →
    Q (gI σ 452 o) σ) ∧
  ((gI σ 451 o) = (-1) →
    Q ((cf.2.1 - 2) * 128) σ)
/-! Store.addKnots(LNandHouse$Knot;[I)V -/
def wp_Store_addKnots_L22 (cf : Cf) (tv : Nat → Int) (o : Int) (x1 : Int) (x2f : Nat) (x2o : Int) (F : Int → Int → Nat → Int → (St → Prop) → St → Prop) (Q : St → Prop) (K22 : Int → St → Prop) (y3 : Int) (σ : St) : Prop :=
  0 ≤ x1 ∧
  ((gI σ 577 x1) ≤ y3 →
    Q σ) ∧
  (¬ (gI σ 577 x1) ≤ y3 →
    ((gI σ 576 x1) ≤ 0 →
      Q σ) ∧
    (¬ (gI σ 576 x1) ≤ 0 →
      ((0 : Int) ≤ y3 ∧ y3 < 9) ∧
      F o (gA σ 583 x1 y3) x2f x2o (fun σ_15 => RK σ_15 →
      ∀ y3_16, y3_16 = w32 (y3 + 1) →
      K22 y3_16 σ_15) σ))
def wp_Store_addKnots_b20 (cf : Cf) (tv : Nat → Int) (o : Int) (x1 : Int) (x2f : Nat) (x2o : Int) (F : Int → Int → Nat → Int → (St → Prop) → St → Prop) (Q : St → Prop) (σ : St) : Prop :=
  lQ1 (wp_Store_addKnots_L22 cf tv o x1 x2f x2o F Q) 0 σ
def rm_Store_addKnots (n : Nat) : Room := { frames := 0 + 1 * n, cells := 0, slots := 0, locals := 0 + 23 * n }
def wp_Store_addKnots_R (cf : Cf) (tv : Nat → Int) (o : Int) (x1 : Int) (x2f : Nat) (x2o : Int) (F : Int → Int → Nat → Int → (St → Prop) → St → Prop) (Q : St → Prop) (σ : St) : Prop :=
  0 ≤ x1 ∧
  (¬ (gI σ 584 x1) = 0 →
    wp_Store_addKnots_b20 cf tv o x1 x2f x2o F Q σ) ∧
  ((gI σ 584 x1) = 0 →
    ((0 : Int) ≤ gI σ 585 x1 ∧ gI σ 585 x1 < (aln cf x2f x2o)) ∧
    ((0 : Int) ≤ gI σ 585 x1 ∧ gI σ 585 x1 < (aln cf x2f x2o)) ∧
    ∀ σ_18, σ_18 = sA σ x2f x2o (gI σ 585 x1) (w32 ((gA σ x2f x2o (gI σ 585 x1)) + (gI σ 587 x1))) →
    wp_Store_addKnots_b20 cf tv o x1 x2f x2o F Q σ_18)
def wp_Store_addKnots (cf : Cf) (tv : Nat → Int) : Nat → Int → Int → Nat → Int → (St → Prop) → St → Prop
  | 0 => fun _ _ _ _ _ _ => False
  | n + 1 => fun o x1 x2f x2o Q σ => wp_Store_addKnots_R cf tv o x1 x2f x2o (wp_Store_addKnots cf tv n) Q σ
/-! Store.isSound([I)Z -/
def wp_Store_isSound_b330 (cf : Cf) (tv : Nat → Int) (o : Int) (x1f : Nat) (x1o : Int) (Q : Int → St → Prop) (K335 : Int → Int → Int → St → Prop) (y3 : Int) (t0 : Int) (σ : St) : Prop :=
  K335 y3 1 t0 σ
def wp_Store_isSound_b334 (cf : Cf) (tv : Nat → Int) (o : Int) (x1f : Nat) (x1o : Int) (Q : Int → St → Prop) (K335 : Int → Int → Int → St → Prop) (y3 : Int) (t0 : Int) (σ : St) : Prop :=
  K335 y3 0 t0 σ
def wp_Store_isSound_b335 (cf : Cf) (tv : Nat → Int) (o : Int) (x1f : Nat) (x1o : Int) (Q : Int → St → Prop) (K272 : Int → Int → St → Prop) (y3 : Int) (t0 : Int) (t1 : Int) (σ : St) : Prop :=
  ∀ y2_69, y2_69 = iand t1 t0 →
  ∀ y3_70, y3_70 = w32 (y3 + 1) →
  K272 y2_69 y3_70 σ
def wp_Store_isSound_b231 (cf : Cf) (tv : Nat → Int) (o : Int) (x1f : Nat) (x1o : Int) (Q : Int → St → Prop) (K232 : Int → Int → St → Prop) (t0 : Int) (σ : St) : Prop :=
  K232 0 t0 σ
def wp_Store_isSound_b232 (cf : Cf) (tv : Nat → Int) (o : Int) (x1f : Nat) (x1o : Int) (Q : Int → St → Prop) (K114 : Int → Int → St → Prop) (t0 : Int) (t1 : Int) (σ : St) : Prop :=
  ∀ y2_71, y2_71 = iand t1 t0 →
  ((0 : Int) ≤ gI σ 393 o ∧ gI σ 393 o < (aln cf x1f x1o)) ∧
  ((0 : Int) ≤ gI σ 393 o ∧ gI σ 393 o < (aln cf x1f x1o)) ∧
  ∀ σ_72, σ_72 = sA σ x1f x1o (gI σ 393 o) (w32 ((gA σ x1f x1o (gI σ 393 o)) + (gI σ 395 o))) →
  wp_Index_next cf tv o (fun r_73 σ_74 => rZ r_73 → RK σ_74 →
  K114 y2_71 r_73 σ_74) σ_72
def wp_Store_isSound_L272 (cf : Cf) (tv : Nat → Int) (o : Int) (x1f : Nat) (x1o : Int) (Q : Int → St → Prop) (K272 : Int → Int → St → Prop) (y2 : Int) (y3 : Int) (σ : St) : Prop :=
  ((cf.1 - 6) ≤ y3 →
    Q y2 σ) ∧
  (¬ (cf.1 - 6) ≤ y3 →
    ((0 : Int) ≤ y3 ∧ y3 < (aln cf x1f x1o)) ∧
    ((0 : Int) ≤ y3 ∧ y3 < (cf.1 - 6)) ∧
    (¬ (gA σ x1f x1o y3) = (gA σ 324 o y3) →
      wp_Store_isSound_b334 cf tv o x1f x1o Q (wp_Store_isSound_b335 cf tv o x1f x1o Q K272) y3 y2 σ) ∧
    ((gA σ x1f x1o y3) = (gA σ 324 o y3) →
      ((0 : Int) ≤ y3 ∧ y3 < (aln cf x1f x1o)) ∧
      (((cf.2.1 - 2) * 128) < (gA σ x1f x1o y3) →
        wp_Store_isSound_b334 cf tv o x1f x1o Q (wp_Store_isSound_b335 cf tv o x1f x1o Q K272) y3 y2 σ) ∧
      (¬ ((cf.2.1 - 2) * 128) < (gA σ x1f x1o y3) →
        ((0 : Int) ≤ y3 ∧ y3 < (cf.1 - 6)) ∧
        (¬ (gA σ 323 o y3) = 0 →
          wp_Store_isSound_b330 cf tv o x1f x1o Q (wp_Store_isSound_b335 cf tv o x1f x1o Q K272) y3 y2 σ) ∧
        ((gA σ 323 o y3) = 0 →
          ((0 : Int) ≤ y3 ∧ y3 < (aln cf x1f x1o)) ∧
          (¬ (gA σ x1f x1o y3) = 0 →
            wp_Store_isSound_b334 cf tv o x1f x1o Q (wp_Store_isSound_b335 cf tv o x1f x1o Q K272) y3 y2 σ) ∧
          ((gA σ x1f x1o y3) = 0 →
            wp_Store_isSound_b330 cf tv o x1f x1o Q (wp_Store_isSound_b335 cf tv o x1f x1o Q K272) y3 y2 σ)))))
def wp_Store_isSound_L114 (cf : Cf) (tv : Nat → Int) (o : Int) (x1f : Nat) (x1o : Int) (Q : Int → St → Prop) (K114 : Int → Int → St → Prop) (y2 : Int) (y3 : Int) (σ : St) : Prop :=
  (y3 = 0 →
    ∀ y3_75, y3_75 = (4 + cf.2.2) →
    lQ2 (wp_Store_isSound_L272 cf tv o x1f x1o Q) y2 y3_75 σ) ∧
  (¬ y3 = 0 →
    wp_Store_read cf tv o (gI σ 393 o) (gI σ 394 o) (gI σ 395 o) o (fun σ_77 => RK σ_77 →
    wp_Row_isWhole cf tv o 320 (fun r_78 σ_79 => rZ r_78 → RK σ_79 →
    (r_78 = 0 →
      wp_Store_isSound_b231 cf tv o x1f x1o Q (wp_Store_isSound_b232 cf tv o x1f x1o Q K114) y2 σ_79) ∧
    (¬ r_78 = 0 →
      wp_Row_length cf tv o (fun r_80 σ_81 => rI r_80 → RK σ_81 →
      (¬ r_80 = (gI σ_81 395 o) →
        wp_Store_isSound_b231 cf tv o x1f x1o Q (wp_Store_isSound_b232 cf tv o x1f x1o Q K114) y2 σ_81) ∧
      (r_80 = (gI σ_81 395 o) →
        wp_Row_type cf tv o (fun r_82 σ_83 => rI r_82 → RK σ_83 →
        wp_Store_isLeaf cf tv r_82 (fun r_84 σ_85 => rZ r_84 → RK σ_85 →
        (r_84 = 0 →
          wp_Store_isSound_b231 cf tv o x1f x1o Q (wp_Store_isSound_b232 cf tv o x1f x1o Q K114) y2 σ_85) ∧
        (¬ r_84 = 0 →
          wp_Store_highOf cf tv o (fun r_86 σ_87 => rJ r_86 → RK σ_87 →
          (¬ r_86 = (gI σ_87 391 o) →
            wp_Store_isSound_b231 cf tv o x1f x1o Q (wp_Store_isSound_b232 cf tv o x1f x1o Q K114) y2 σ_87) ∧
          (r_86 = (gI σ_87 391 o) →
            wp_Store_lowOf cf tv o (fun r_88 σ_89 => rJ r_88 → RK σ_89 →
            (¬ r_88 = (gI σ_89 392 o) →
              wp_Store_isSound_b231 cf tv o x1f x1o Q (wp_Store_isSound_b232 cf tv o x1f x1o Q K114) y2 σ_89) ∧
            (r_88 = (gI σ_89 392 o) →
              wp_Store_isSound_b232 cf tv o x1f x1o Q K114 1 y2 σ_89)) σ_87)) σ_85)) σ_83) σ_81)) σ_79)) σ_77) σ)
def wp_Store_isSound_L37 (cf : Cf) (tv : Nat → Int) (o : Int) (x1f : Nat) (x1o : Int) (Q : Int → St → Prop) (K37 : Int → St → Prop) (y2 : Int) (σ : St) : Prop :=
  ((gI σ 390 o) ≤ y2 →
    wp_Store_addKnots cf tv 12 o (gI σ 387 o) x1f x1o (fun σ_91 => RK σ_91 →
    ((0 : Int) ≤ gI σ_91 214 o ∧ gI σ_91 214 o < (aln cf x1f x1o)) ∧
    ((0 : Int) ≤ gI σ_91 214 o ∧ gI σ_91 214 o < (aln cf x1f x1o)) ∧
    ∀ σ_92, σ_92 = sA σ_91 x1f x1o (gI σ_91 214 o) (w32 ((gA σ_91 x1f x1o (gI σ_91 214 o)) + (gI σ_91 216 o))) →
    wp_Index_seek cf tv o 0 0 (fun r_93 σ_94 => rZ r_93 → RK σ_94 →
    lQ2 (wp_Store_isSound_L114 cf tv o x1f x1o Q) 1 r_93 σ_94) σ_92) σ) ∧
  (¬ (gI σ 390 o) ≤ y2 →
    ((0 : Int) ≤ y2 ∧ y2 < 640) ∧
    ((0 : Int) ≤ gA σ 388 o y2 ∧ gA σ 388 o y2 < (aln cf x1f x1o)) ∧
    ((0 : Int) ≤ y2 ∧ y2 < 640) ∧
    ((0 : Int) ≤ gA σ 388 o y2 ∧ gA σ 388 o y2 < (aln cf x1f x1o)) ∧
    ∀ σ_95, σ_95 = sA σ x1f x1o (gA σ 388 o y2) (w32 ((gA σ x1f x1o (gA σ 388 o y2)) + (gA σ 389 o y2))) →
    ∀ y2_96, y2_96 = w32 (y2 + 1) →
    K37 y2_96 σ_95)
abbrev rm_Store_isSound : Room := { frames := 16, cells := 0, slots := 0, locals := 398 }
def wp_Store_isSound (cf : Cf) (tv : Nat → Int) (o : Int) (x1f : Nat) (x1o : Int) (Q : Int → St → Prop) (σ : St) : Prop :=
  wp_Blocks_isSound cf tv o (fun r_97 σ_98 => rZ r_97 → RK σ_98 →
  (r_97 = 0 →
    Q 0 σ_98) ∧
  (¬ r_97 = 0 →
    wp_Index_isSound cf tv 12 o (gI σ_98 387 o) 1 (fun r_99 σ_100 => rZ r_99 → RK σ_100 →
    (¬ r_99 = 0 →
      wp_Arrays_fill_2 cf tv x1f x1o 0 (fun σ_102 => RK σ_102 →
      lQ1 (wp_Store_isSound_L37 cf tv o x1f x1o Q) 0 σ_102) σ_100) ∧
    (r_99 = 0 →
      Q 0 σ_100)) σ_98)) σ
/-! Store.isLike(LNandHouse$Store;)Z -/
def wp_Store_isLike_b209 (cf : Cf) (tv : Nat → Int) (o : Int) (x1 : Int) (Q : Int → St → Prop) (K29 : Int → Int → St → Prop) (y3 : Int) (σ : St) : Prop :=
  wp_Index_next cf tv o (fun r_33 σ_34 => rZ r_33 → RK σ_34 →
  wp_Index_next cf tv x1 (fun r_35 σ_36 => rZ r_35 → RK σ_36 →
  ∀ y3_37, y3_37 = iand y3 (if r_33 = r_35 then (1 : Int) else (0 : Int)) →
  K29 r_33 y3_37 σ_36) σ_34) σ
def wp_Store_isLike_L158 (cf : Cf) (tv : Nat → Int) (o : Int) (x1 : Int) (Q : Int → St → Prop) (K29 : Int → Int → St → Prop) (K158 : Int → Int → St → Prop) (y3 : Int) (y4 : Int) (σ : St) : Prop :=
  ((gI σ 395 o) ≤ y4 →
    wp_Store_isLike_b209 cf tv o x1 Q K29 y3 σ) ∧
  (¬ (gI σ 395 o) ≤ y4 →
    (y3 = 0 →
      wp_Store_isLike_b209 cf tv o x1 Q K29 y3 σ) ∧
    (¬ y3 = 0 →
      ((0 : Int) ≤ y4 ∧ y4 < (rowL o)) ∧
      ((0 : Int) ≤ y4 ∧ y4 < (rowL x1)) ∧
      ∀ y3_38, y3_38 = (if (gA σ 512 o y4) = (gA σ 512 x1 y4) then (1 : Int) else (0 : Int)) →
      ∀ y4_39, y4_39 = w32 (y4 + 1) →
      K158 y3_38 y4_39 σ))
def wp_Store_isLike_b239 (cf : Cf) (tv : Nat → Int) (o : Int) (x1 : Int) (Q : Int → St → Prop) (y3 : Int) (σ : St) : Prop :=
  (y3 = 0 →
    Q 0 σ) ∧
  (¬ y3 = 0 →
    (¬ (gI σ 203 o) = (gI σ 203 x1) →
      Q 0 σ) ∧
    ((gI σ 203 o) = (gI σ 203 x1) →
      Q 1 σ))
def wp_Store_isLike_b94 (cf : Cf) (tv : Nat → Int) (o : Int) (x1 : Int) (Q : Int → St → Prop) (K95 : Int → St → Prop) (σ : St) : Prop :=
  K95 0 σ
def wp_Store_isLike_b95 (cf : Cf) (tv : Nat → Int) (o : Int) (x1 : Int) (Q : Int → St → Prop) (K29 : Int → Int → St → Prop) (t0 : Int) (σ : St) : Prop :=
  wp_Store_read cf tv o (gI σ 393 o) (gI σ 394 o) (gI σ 395 o) o (fun σ_41 => RK σ_41 →
  wp_Store_read cf tv x1 (gI σ_41 393 x1) (gI σ_41 394 x1) (gI σ_41 395 x1) x1 (fun σ_43 => RK σ_43 →
  lQ2 (wp_Store_isLike_L158 cf tv o x1 Q K29) t0 24 σ_43) σ_41) σ
def wp_Store_isLike_L29 (cf : Cf) (tv : Nat → Int) (o : Int) (x1 : Int) (Q : Int → St → Prop) (K29 : Int → Int → St → Prop) (y2 : Int) (y3 : Int) (σ : St) : Prop :=
  (y2 = 0 →
    wp_Store_isLike_b239 cf tv o x1 Q y3 σ) ∧
  (¬ y2 = 0 →
    (y3 = 0 →
      wp_Store_isLike_b239 cf tv o x1 Q y3 σ) ∧
    (¬ y3 = 0 →
      (¬ (gI σ 391 o) = (gI σ 391 x1) →
        wp_Store_isLike_b94 cf tv o x1 Q (wp_Store_isLike_b95 cf tv o x1 Q K29) σ) ∧
      ((gI σ 391 o) = (gI σ 391 x1) →
        (¬ (gI σ 392 o) = (gI σ 392 x1) →
          wp_Store_isLike_b94 cf tv o x1 Q (wp_Store_isLike_b95 cf tv o x1 Q K29) σ) ∧
        ((gI σ 392 o) = (gI σ 392 x1) →
          (¬ (gI σ 395 o) = (gI σ 395 x1) →
            wp_Store_isLike_b94 cf tv o x1 Q (wp_Store_isLike_b95 cf tv o x1 Q K29) σ) ∧
          ((gI σ 395 o) = (gI σ 395 x1) →
            wp_Store_isLike_b95 cf tv o x1 Q K29 1 σ)))))
abbrev rm_Store_isLike : Room := { frames := 6, cells := 0, slots := 0, locals := 180 }
def wp_Store_isLike (cf : Cf) (tv : Nat → Int) (o : Int) (x1 : Int) (Q : Int → St → Prop) (σ : St) : Prop :=
  wp_Index_seek cf tv o 0 0 (fun r_44 σ_45 => rZ r_44 → RK σ_45 →
  wp_Index_seek cf tv x1 0 0 (fun r_46 σ_47 => rZ r_46 → RK σ_47 →
  ∀ y3_48, y3_48 = (if r_44 = r_46 then (1 : Int) else (0 : Int)) →
  lQ2 (wp_Store_isLike_L29 cf tv o x1 Q) r_44 y3_48 σ_47) σ_45) σ
