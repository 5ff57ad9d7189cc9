/-! Writer.open(I)V -/
abbrev rm_Writer_open : Room := { frames := 0, cells := 0, slots := 0, locals := 0 }
def wp_Writer_open (cf : Cf) (tv : Nat → Int) (o : Int) (x1 : Int) (Q : St → Prop) (σ : St) : Prop :=
  ∀ σ_3, σ_3 = sI σ 451 o x1 →
  ∀ σ_4, σ_4 = sI σ_3 452 o 0 →
  Q σ_4
/-! Blocks.endMove()V -/
abbrev rm_Blocks_endMove : Room := { frames := 0, cells := 0, slots := 0, locals := 0 }
def wp_Blocks_endMove (cf : Cf) (tv : Nat → Int) (o : Int) (Q : St → Prop) (σ : St) : Prop :=
  ((0 : Int) ≤ gI σ 265 o ∧ gI σ 265 o < (cf.1 - 6)) ∧
  ((0 : Int) ≤ gA σ 258 o (gI σ 265 o) ∧ gA σ 258 o (gI σ 265 o) < cf.1) ∧
  ∀ σ_5, σ_5 = sA σ 259 o (gA σ 258 o (gI σ 265 o)) (-2) →
  ((0 : Int) ≤ gI σ_5 266 o ∧ gI σ_5 266 o < cf.1) ∧
  ∀ σ_6, σ_6 = sA σ_5 259 o (gI σ_5 266 o) (gI σ_5 265 o) →
  ((0 : Int) ≤ gI σ_6 265 o ∧ gI σ_6 265 o < (cf.1 - 6)) ∧
  ∀ σ_7, σ_7 = sA σ_6 258 o (gI σ_6 265 o) (gI σ_6 266 o) →
  ∀ σ_8, σ_8 = sI σ_7 265 o (-1) →
  Q σ_8
/-! Blocks.stopMove(I)V -/
abbrev rm_Blocks_stopMove : Room := { frames := 1, cells := 0, slots := 0, locals := 20 }
def wp_Blocks_stopMove (cf : Cf) (tv : Nat → Int) (o : Int) (x1 : Int) (Q : St → Prop) (σ : St) : Prop :=
  (¬ (gI σ 265 o) = x1 →
    Q σ) ∧
  ((gI σ 265 o) = x1 →
    (¬ (gI σ 265 o) = (-1) →
      (¬ (gI σ 267 o) = (gI σ 268 o) →
        ((0 : Int) ≤ gI σ 266 o ∧ gI σ 266 o < cf.1) ∧
        ∀ σ_5, σ_5 = sA σ 259 o (gI σ 266 o) (-2) →
        ∀ σ_6, σ_6 = sI σ_5 265 o (-1) →
        Q σ_6) ∧
      ((gI σ 267 o) = (gI σ 268 o) →
        wp_Blocks_endMove cf tv o (fun σ_8 => RK σ_8 →
        Q σ_8) σ)) ∧
    ((gI σ 265 o) = (-1) →
      Q σ))
/-! Blocks.freeOne(Z)I -/
def wp_Blocks_freeOne_b67 (cf : Cf) (tv : Nat → Int) (o : Int) (x1 : Int) (Q : Int → St → Prop) (K69 : Int → Int → St → Prop) (y3 : Int) (σ : St) : Prop :=
  K69 y3 y3 σ
def wp_Blocks_freeOne_b69 (cf : Cf) (tv : Nat → Int) (o : Int) (x1 : Int) (Q : Int → St → Prop) (K4 : Int → Int → St → Prop) (y2 : Int) (y3 : Int) (σ : St) : Prop :=
  ∀ y3_5, y3_5 = w32 (y3 + 1) →
  K4 y2 y3_5 σ
def wp_Blocks_freeOne_L4 (cf : Cf) (tv : Nat → Int) (o : Int) (x1 : Int) (Q : Int → St → Prop) (K4 : Int → Int → St → Prop) (y2 : Int) (y3 : Int) (σ : St) : Prop :=
  (cf.1 ≤ y3 →
    Q y2 σ) ∧
  (¬ cf.1 ≤ y3 →
    ((0 : Int) ≤ y3 ∧ y3 < cf.1) ∧
    (¬ (gA σ 259 o y3) = (-1) →
      wp_Blocks_freeOne_b69 cf tv o x1 Q K4 y2 y3 σ) ∧
    ((gA σ 259 o y3) = (-1) →
      (y2 = (-1) →
        wp_Blocks_freeOne_b67 cf tv o x1 Q (wp_Blocks_freeOne_b69 cf tv o x1 Q K4) y3 σ) ∧
      (¬ y2 = (-1) →
        (x1 = 0 →
          ((0 : Int) ≤ y3 ∧ y3 < cf.1) ∧
          ((0 : Int) ≤ y2 ∧ y2 < cf.1) ∧
          ((gA σ 260 o y2) ≤ (gA σ 260 o y3) →
            wp_Blocks_freeOne_b69 cf tv o x1 Q K4 y2 y3 σ) ∧
          (¬ (gA σ 260 o y2) ≤ (gA σ 260 o y3) →
            wp_Blocks_freeOne_b67 cf tv o x1 Q (wp_Blocks_freeOne_b69 cf tv o x1 Q K4) y3 σ)) ∧
        (¬ x1 = 0 →
          ((0 : Int) ≤ y3 ∧ y3 < cf.1) ∧
          ((0 : Int) ≤ y2 ∧ y2 < cf.1) ∧
          ((gA σ 260 o y3) ≤ (gA σ 260 o y2) →
            wp_Blocks_freeOne_b69 cf tv o x1 Q K4 y2 y3 σ) ∧
          (¬ (gA σ 260 o y3) ≤ (gA σ 260 o y2) →
            wp_Blocks_freeOne_b67 cf tv o x1 Q (wp_Blocks_freeOne_b69 cf tv o x1 Q K4) y3 σ)))))
abbrev rm_Blocks_freeOne : Room := { frames := 0, cells := 0, slots := 0, locals := 0 }
def wp_Blocks_freeOne (cf : Cf) (tv : Nat → Int) (o : Int) (x1 : Int) (Q : Int → St → Prop) (σ : St) : Prop :=
  lQ2 (wp_Blocks_freeOne_L4 cf tv o x1 Q) (-1) 0 σ
/-! Blocks.writeErased(I)Z -/
abbrev rm_Blocks_writeErased : Room := { frames := 2, cells := 0, slots := 0, locals := 106 }
def wp_Blocks_writeErased (cf : Cf) (tv : Nat → Int) (o : Int) (x1 : Int) (Q : Int → St → Prop) (σ : St) : Prop :=
  wp_Arrays_fill cf tv 262 o 0 (fun σ_14 => RK σ_14 →
  wp_House_putInt cf tv 262 o 0 1263288881 (fun σ_16 => RK σ_16 →
  ((0 : Int) ≤ x1 ∧ x1 < cf.1) ∧
  wp_House_putInt cf tv 262 o 4 (gA σ_16 260 o x1) (fun σ_18 => RK σ_18 →
  wp_House_check cf tv (-1) 262 o 0 8 (fun r_19 σ_20 => rI r_19 → RK σ_20 →
  wp_House_putInt cf tv 262 o 8 r_19 (fun σ_22 => RK σ_22 →
  wp_Flash_write cf tv x1 0 262 o 0 (fun r_23 σ_24 => rZ r_23 → RK σ_24 →
  Q r_23 σ_24) σ_22) σ_20) σ_18) σ_16) σ_14) σ
/-! Blocks.lose(I)V -/
abbrev rm_Blocks_lose : Room := { frames := 1, cells := 0, slots := 0, locals := 21 }
def wp_Blocks_lose (cf : Cf) (tv : Nat → Int) (o : Int) (x1 : Int) (Q : St → Prop) (σ : St) : Prop :=
  ((0 : Int) ≤ x1 ∧ x1 < cf.1) ∧
  ∀ σ_4, σ_4 = sA σ 259 o x1 (-3) →
  wp_Flash_giveUp cf tv x1 (fun σ_6 => RK σ_6 →
  Q σ_6) σ_4
/-! Blocks.erase(I)V -/
def wp_Blocks_erase_b39 (cf : Cf) (tv : Nat → Int) (o : Int) (x1 : Int) (Q : St → Prop) (σ : St) : Prop :=
  wp_Blocks_lose cf tv o x1 (fun σ_10 => RK σ_10 →
  Q σ_10) σ
abbrev rm_Blocks_erase : Room := { frames := 3, cells := 0, slots := 0, locals := 127 }
def wp_Blocks_erase (cf : Cf) (tv : Nat → Int) (o : Int) (x1 : Int) (Q : St → Prop) (σ : St) : Prop :=
  ((0 : Int) ≤ x1 ∧ x1 < cf.1) ∧
  ((0 : Int) ≤ x1 ∧ x1 < cf.1) ∧
  ∀ σ_11, σ_11 = sA σ 260 o x1 (w32 ((gA σ 260 o x1) + 1)) →
  wp_Flash_erase cf tv x1 (fun r_12 σ_13 => rZ r_12 → RK σ_13 →
  (r_12 = 0 →
    wp_Blocks_erase_b39 cf tv o x1 Q σ_13) ∧
  (¬ r_12 = 0 →
    wp_Blocks_writeErased cf tv o x1 (fun r_14 σ_15 => rZ r_14 → RK σ_15 →
    (r_14 = 0 →
      wp_Blocks_erase_b39 cf tv o x1 Q σ_15) ∧
    (¬ r_14 = 0 →
      ((0 : Int) ≤ x1 ∧ x1 < cf.1) ∧
      ∀ σ_16, σ_16 = sA σ_15 259 o x1 (-1) →
      Q σ_16)) σ_13)) σ_11
/-! Blocks.eraseOne()Z -/
def wp_Blocks_eraseOne_L2 (cf : Cf) (tv : Nat → Int) (o : Int) (Q : Int → St → Prop) (K2 : Int → St → Prop) (y1 : Int) (σ : St) : Prop :=
  (cf.1 ≤ y1 →
    Q 0 σ) ∧
  (¬ cf.1 ≤ y1 →
    ((0 : Int) ≤ y1 ∧ y1 < cf.1) ∧
    (¬ (gA σ 259 o y1) = (-2) →
      ∀ y1_7, y1_7 = w32 (y1 + 1) →
      K2 y1_7 σ) ∧
    ((gA σ 259 o y1) = (-2) →
      wp_Blocks_erase cf tv o y1 (fun σ_9 => RK σ_9 →
      Q 1 σ_9) σ))
abbrev rm_Blocks_eraseOne : Room := { frames := 4, cells := 0, slots := 0, locals := 148 }
def wp_Blocks_eraseOne (cf : Cf) (tv : Nat → Int) (o : Int) (Q : Int → St → Prop) (σ : St) : Prop :=
  lQ1 (wp_Blocks_eraseOne_L2 cf tv o Q) 0 σ
/-! Blocks.fetch()I -/
def wp_Blocks_fetch_L6 (cf : Cf) (tv : Nat → Int) (o : Int) (Q : Int → St → Prop) (K6 : Int → St → Prop) (y1 : Int) (σ : St) : Prop :=
  (¬ y1 = (-1) →
    Q y1 σ) ∧
  (y1 = (-1) →
    wp_Blocks_eraseOne cf tv o (fun r_7 σ_8 => rZ r_7 → RK σ_8 →
    (r_7 = 0 →
      Q y1 σ_8) ∧
    (¬ r_7 = 0 →
      wp_Blocks_freeOne cf tv o 0 (fun r_9 σ_10 => rI r_9 → RK σ_10 →
      K6 r_9 σ_10) σ_8)) σ)
abbrev rm_Blocks_fetch : Room := { frames := 5, cells := 0, slots := 0, locals := 169 }
def wp_Blocks_fetch (cf : Cf) (tv : Nat → Int) (o : Int) (Q : Int → St → Prop) (σ : St) : Prop :=
  wp_Blocks_freeOne cf tv o 0 (fun r_11 σ_12 => rI r_11 → RK σ_12 →
  lQ1 (wp_Blocks_fetch_L6 cf tv o Q) r_11 σ_12) σ
/-! Blocks.writeHead(IIZII)Z -/
abbrev rm_Blocks_writeHead : Room := { frames := 2, cells := 0, slots := 0, locals := 106 }
def wp_Blocks_writeHead (cf : Cf) (tv : Nat → Int) (o : Int) (x1 : Int) (x2 : Int) (x3 : Int) (x4 : Int) (x5 : Int) (Q : Int → St → Prop) (σ : St) : Prop :=
  wp_Arrays_fill cf tv 262 o 0 (fun σ_23 => RK σ_23 →
  wp_House_putInt cf tv 262 o 0 1263289138 (fun σ_25 => RK σ_25 →
  wp_House_putInt cf tv 262 o 4 x2 (fun σ_27 => RK σ_27 →
  ∀ σ_28, σ_28 = sI σ_27 261 o (w64 ((gI σ_27 261 o) + 1)) →
  wp_House_putLong cf tv 262 o 8 (w64 ((gI σ_27 261 o) + 1)) (fun σ_30 => RK σ_30 →
  wp_House_putInt cf tv 262 o 16 (if x3 = 0 then (0 : Int) else (1 : Int)) (fun σ_32 => RK σ_32 →
  wp_House_putInt cf tv 262 o 20 x4 (fun σ_34 => RK σ_34 →
  wp_House_putInt cf tv 262 o 24 x5 (fun σ_36 => RK σ_36 →
  wp_House_check cf tv (-1) 262 o 0 28 (fun r_37 σ_38 => rI r_37 → RK σ_38 →
  wp_House_putInt cf tv 262 o 28 r_37 (fun σ_40 => RK σ_40 →
  wp_Flash_write cf tv x1 1 262 o 0 (fun r_41 σ_42 => rZ r_41 → RK σ_42 →
  Q r_41 σ_42) σ_40) σ_38) σ_36) σ_34) σ_32) σ_30) σ_28) σ_25) σ_23) σ
/-! Blocks.carry(III)V -/
def wp_Blocks_carry_b129 (cf : Cf) (tv : Nat → Int) (o : Int) (x1 : Int) (x2 : Int) (x3 : Int) (Q : St → Prop) (K3 : Int → St → Prop) (y4 : Int) (σ : St) : Prop :=
  K3 y4 σ
def wp_Blocks_carry_b99 (cf : Cf) (tv : Nat → Int) (o : Int) (x1 : Int) (x2 : Int) (x3 : Int) (Q : St → Prop) (K3 : Int → St → Prop) (y4 : Int) (y5 : Int) (σ : St) : Prop :=
  (y4 = 0 →
    wp_Blocks_lose cf tv o y5 (fun σ_28 => RK σ_28 →
    wp_Blocks_carry_b129 cf tv o x1 x2 x3 Q K3 y4 σ_28) σ) ∧
  (¬ y4 = 0 →
    ((0 : Int) ≤ y5 ∧ y5 < cf.1) ∧
    ∀ σ_29, σ_29 = sA σ 259 o y5 x1 →
    ((0 : Int) ≤ x1 ∧ x1 < (cf.1 - 6)) ∧
    ∀ σ_30, σ_30 = sA σ_29 258 o x1 y5 →
    wp_Blocks_carry_b129 cf tv o x1 x2 x3 Q K3 y4 σ_30)
def wp_Blocks_carry_L45 (cf : Cf) (tv : Nat → Int) (o : Int) (x1 : Int) (x2 : Int) (x3 : Int) (Q : St → Prop) (K3 : Int → St → Prop) (K45 : Int → Int → Int → St → Prop) (y4 : Int) (y5 : Int) (y6 : Int) (σ : St) : Prop :=
  (x3 ≤ y6 →
    wp_Blocks_carry_b99 cf tv o x1 x2 x3 Q K3 y4 y5 σ) ∧
  (¬ x3 ≤ y6 →
    (y4 = 0 →
      wp_Blocks_carry_b99 cf tv o x1 x2 x3 Q K3 y4 y5 σ) ∧
    (¬ y4 = 0 →
      wp_Flash_read cf tv x2 (w32 (2 + y6)) 263 o 0 (fun σ_32 => RK σ_32 →
      wp_Flash_write cf tv y5 (w32 (2 + y6)) 263 o 0 (fun r_33 σ_34 => rZ r_33 → RK σ_34 →
      ∀ y6_35, y6_35 = w32 (y6 + 1) →
      K45 r_33 y5 y6_35 σ_34) σ_32) σ))
def wp_Blocks_carry_L3 (cf : Cf) (tv : Nat → Int) (o : Int) (x1 : Int) (x2 : Int) (x3 : Int) (Q : St → Prop) (K3 : Int → St → Prop) (y4 : Int) (σ : St) : Prop :=
  (¬ y4 = 0 →
    Q σ) ∧
  (y4 = 0 →
    wp_Blocks_fetch cf tv o (fun r_36 σ_37 => rI r_36 → RK σ_37 →
    (¬ r_36 = (-1) →
      wp_Blocks_writeHead cf tv o r_36 x1 0 0 0 (fun r_38 σ_39 => rZ r_38 → RK σ_39 →
      lQ3 (wp_Blocks_carry_L45 cf tv o x1 x2 x3 Q K3) r_38 r_36 0 σ_39) σ_37) ∧
    (r_36 = (-1) →
      False)) σ)
abbrev rm_Blocks_carry : Room := { frames := 6, cells := 0, slots := 0, locals := 190 }
def wp_Blocks_carry (cf : Cf) (tv : Nat → Int) (o : Int) (x1 : Int) (x2 : Int) (x3 : Int) (Q : St → Prop) (σ : St) : Prop :=
  lQ1 (wp_Blocks_carry_L3 cf tv o x1 x2 x3 Q) 0 σ
/-! Blocks.write(II[BI)V -/
def wp_Blocks_write_L22 (cf : Cf) (tv : Nat → Int) (o : Int) (x1 : Int) (x2 : Int) (x3f : Nat) (x3o : Int) (x4 : Int) (Q : St → Prop) (K22 : St → Prop) (σ : St) : Prop :=
  ((0 : Int) ≤ x1 ∧ x1 < (cf.1 - 6)) ∧
  wp_Flash_write cf tv (gA σ 258 o x1) (w32 (2 + x2)) x3f x3o x4 (fun r_12 σ_13 => rZ r_12 → RK σ_13 →
  (¬ r_12 = 0 →
    Q σ_13) ∧
  (r_12 = 0 →
    ((0 : Int) ≤ x1 ∧ x1 < (cf.1 - 6)) ∧
    ∀ y5_14, y5_14 = gA σ_13 258 o x1 →
    wp_Blocks_carry cf tv o x1 y5_14 x2 (fun σ_16 => RK σ_16 →
    wp_Blocks_lose cf tv o y5_14 (fun σ_18 => RK σ_18 →
    K22 σ_18) σ_16) σ_13)) σ
abbrev rm_Blocks_write : Room := { frames := 7, cells := 0, slots := 0, locals := 216 }
def wp_Blocks_write (cf : Cf) (tv : Nat → Int) (o : Int) (x1 : Int) (x2 : Int) (x3f : Nat) (x3o : Int) (x4 : Int) (Q : St → Prop) (σ : St) : Prop :=
  wp_Blocks_stopMove cf tv o x1 (fun σ_20 => RK σ_20 →
  ((0 : Int) ≤ x1 ∧ x1 < (cf.1 - 6)) ∧
  (¬ (gA σ_20 258 o x1) = (-1) →
    lQ0 (wp_Blocks_write_L22 cf tv o x1 x2 x3f x3o x4 Q) σ_20) ∧
  ((gA σ_20 258 o x1) = (-1) →
    wp_Blocks_carry cf tv o x1 (-1) 0 (fun σ_22 => RK σ_22 →
    lQ0 (wp_Blocks_write_L22 cf tv o x1 x2 x3f x3o x4 Q) σ_22) σ_20)) σ
/-! Writer.put([BII)I -/
def wp_Writer_put_b81 (cf : Cf) (tv : Nat → Int) (o : Int) (x1f : Nat) (x1o : Int) (x2 : Int) (x3 : Int) (Q : Int → St → Prop) (K9 : Int → Int → St → Prop) (y4 : Int) (y5 : Int) (σ : St) : Prop :=
  ∀ y5_19, y5_19 = w32 (y5 + 1) →
  K9 y4 y5_19 σ
def wp_Writer_put_L9 (cf : Cf) (tv : Nat → Int) (o : Int) (x1f : Nat) (x1o : Int) (x2 : Int) (x3 : Int) (Q : Int → St → Prop) (K9 : Int → Int → St → Prop) (y4 : Int) (y5 : Int) (σ : St) : Prop :=
  (x3 ≤ y5 →
    Q y4 σ) ∧
  (¬ x3 ≤ y5 →
    ((0 : Int) ≤ w32 (x2 + y5) ∧ w32 (x2 + y5) < (aln cf x1f x1o)) ∧
    ((0 : Int) ≤ jrm (gI σ 452 o) 128 ∧ jrm (gI σ 452 o) 128 < 128) ∧
    ∀ σ_20, σ_20 = sA σ 450 o (jrm (gI σ 452 o) 128) (gA σ x1f x1o (w32 (x2 + y5))) →
    ∀ σ_21, σ_21 = sI σ_20 452 o (w32 ((gI σ_20 452 o) + 1)) →
    (¬ (jrm (gI σ_21 452 o) 128) = 0 →
      wp_Writer_put_b81 cf tv o x1f x1o x2 x3 Q K9 y4 y5 σ_21) ∧
    ((jrm (gI σ_21 452 o) 128) = 0 →
      wp_Blocks_write cf tv (o % 2) (gI σ_21 451 o) (w32 ((jdv (gI σ_21 452 o) 128) - 1)) 450 o 0 (fun σ_23 => RK σ_23 →
      wp_Writer_put_b81 cf tv o x1f x1o x2 x3 Q K9 y4 y5 σ_23) σ_21))
abbrev rm_Writer_put : Room := { frames := 8, cells := 0, slots := 0, locals := 241 }
def wp_Writer_put (cf : Cf) (tv : Nat → Int) (o : Int) (x1f : Nat) (x1o : Int) (x2 : Int) (x3 : Int) (Q : Int → St → Prop) (σ : St) : Prop :=
  ∀ y4_24, y4_24 = gI σ 452 o →
  lQ2 (wp_Writer_put_L9 cf tv o x1f x1o x2 x3 Q) y4_24 0 σ
/-! Writer.takes(I)Z -/
abbrev rm_Writer_takes : Room := { frames := 0, cells := 0, slots := 0, locals := 0 }
def wp_Writer_takes (cf : Cf) (tv : Nat → Int) (o : Int) (x1 : Int) (Q : Int → St → Prop) (σ : St) : Prop :=
  ((gI σ 451 o) = (-1) →
    Q 0 σ) ∧
  (¬ (gI σ 451 o) = (-1) →
    (((cf.2.1 - 2) * 128) < (w32 ((gI σ 452 o) + x1)) →
      Q 0 σ) ∧
    (¬ ((cf.2.1 - 2) * 128) < (w32 ((gI σ 452 o) + x1)) →
      Q 1 σ))
/-! Writer.flush()V -/
def wp_Writer_flush_L9 (cf : Cf) (tv : Nat → Int) (o : Int) (Q : St → Prop) (K9 : St → Prop) (σ : St) : Prop :=
  ((jrm (gI σ 452 o) 128) = 0 →
    Q σ) ∧
  (¬ (jrm (gI σ 452 o) 128) = 0 →
    ((0 : Int) ≤ jrm (gI σ 452 o) 128 ∧ jrm (gI σ 452 o) 128 < 128) ∧
    ∀ σ_5, σ_5 = sA σ 450 o (jrm (gI σ 452 o) 128) 0 →
    ∀ σ_6, σ_6 = sI σ_5 452 o (w32 ((gI σ_5 452 o) + 1)) →
    (¬ (jrm (gI σ_6 452 o) 128) = 0 →
      K9 σ_6) ∧
    ((jrm (gI σ_6 452 o) 128) = 0 →
      wp_Blocks_write cf tv (o % 2) (gI σ_6 451 o) (w32 ((jdv (gI σ_6 452 o) 128) - 1)) 450 o 0 (fun σ_8 => RK σ_8 →
      K9 σ_8) σ_6))
abbrev rm_Writer_flush : Room := { frames := 8, cells := 0, slots := 0, locals := 241 }
def wp_Writer_flush (cf : Cf) (tv : Nat → Int) (o : Int) (Q : St → Prop) (σ : St) : Prop :=
  (¬ (gI σ 451 o) = (-1) →
    lQ0 (wp_Writer_flush_L9 cf tv o Q) σ) ∧
  ((gI σ 451 o) = (-1) →
    Q σ)
/-! Writer.close()V -/
abbrev rm_Writer_close : Room := { frames := 9, cells := 0, slots := 0, locals := 261 }
def wp_Writer_close (cf : Cf) (tv : Nat → Int) (o : Int) (Q : St → Prop) (σ : St) : Prop :=
  (¬ (gI σ 451 o) = (-1) →
    wp_Writer_flush cf tv o (fun σ_6 => RK σ_6 →
    ((0 : Int) ≤ gI σ_6 451 o ∧ gI σ_6 451 o < (cf.1 - 6)) ∧
    ∀ σ_7, σ_7 = sA σ_6 323 (o % 2) (gI σ_6 451 o) 1 →
    ∀ σ_8, σ_8 = sI σ_7 451 o (-1) →
    Q σ_8) σ) ∧
  ((gI σ 451 o) = (-1) →
    Q σ)
/-! Writer.reads(II[BI)Z -/
abbrev rm_Writer_reads : Room := { frames := 1, cells := 0, slots := 0, locals := 80 }
def wp_Writer_reads (cf : Cf) (tv : Nat → Int) (o : Int) (x1 : Int) (x2 : Int) (x3f : Nat) (x3o : Int) (x4 : Int) (Q : Int → St → Prop) (σ : St) : Prop :=
  (¬ x1 = (gI σ 451 o) →
    Q 0 σ) ∧
  (x1 = (gI σ 451 o) →
    (¬ x2 = (jdv (gI σ 452 o) 128) →
      Q 0 σ) ∧
    (x2 = (jdv (gI σ 452 o) 128) →
      (¬ (jrm (gI σ 452 o) 128) = 0 →
        (((0 : Int) ≤ (0 : Int) ∧ (0 : Int) ≤ x4 ∧ (0 : Int) ≤ (128 : Int)) ∧ (0 : Int) + 128 ≤ 128 ∧ x4 + 128 ≤ (aln cf x3f x3o)) ∧
        ∀ σ_2, σ_2 = sAr σ x3f x3o (cpy (gA σ 450 o) (gA σ x3f x3o) 0 x4 128) →
        Q 1 σ_2) ∧
      ((jrm (gI σ 452 o) 128) = 0 →
        Q 0 σ)))
/-! Writer.lose()V -/
abbrev rm_Writer_lose : Room := { frames := 0, cells := 0, slots := 0, locals := 0 }
def wp_Writer_lose (cf : Cf) (tv : Nat → Int) (o : Int) (Q : St → Prop) (σ : St) : Prop :=
  ∀ σ_3, σ_3 = sI σ 451 o (-1) →
  ∀ σ_4, σ_4 = sI σ_3 452 o 0 →
  Q σ_4
/-! Index.giveAll(LNandHouse$Knot;)V -/
def wp_Index_giveAll_b33 (cf : Cf) (tv : Nat → Int) (o : Int) (x1 : Int) (F : Int → Int → (St → Prop) → St → Prop) (Q : St → Prop) (σ : St) : Prop :=
  ∀ σ_13, σ_13 = sI σ 386 o (w32 ((gI σ 386 o) - 1)) →
  ((0 : Int) ≤ w32 ((gI σ 386 o) - 1) ∧ w32 ((gI σ 386 o) - 1) < 320) ∧
  ∀ σ_14, σ_14 = sA σ_13 385 o (w32 ((gI σ 386 o) - 1)) x1 →
  Q σ_14
def wp_Index_giveAll_L2 (cf : Cf) (tv : Nat → Int) (o : Int) (x1 : Int) (F : Int → Int → (St → Prop) → St → Prop) (Q : St → Prop) (K2 : Int → St → Prop) (y2 : Int) (σ : St) : Prop :=
  0 ≤ x1 ∧
  ((gI σ 577 x1) ≤ y2 →
    wp_Index_giveAll_b33 cf tv o x1 F Q σ) ∧
  (¬ (gI σ 577 x1) ≤ y2 →
    ((gI σ 576 x1) ≤ 0 →
      wp_Index_giveAll_b33 cf tv o x1 F Q σ) ∧
    (¬ (gI σ 576 x1) ≤ 0 →
      ((0 : Int) ≤ y2 ∧ y2 < 9) ∧
      F o (gA σ 583 x1 y2) (fun σ_17 => RK σ_17 →
      ∀ y2_18, y2_18 = w32 (y2 + 1) →
      K2 y2_18 σ_17) σ))
def rm_Index_giveAll (n : Nat) : Room := { frames := 0 + 1 * n, cells := 0, slots := 0, locals := 0 + 22 * n }
def wp_Index_giveAll_R (cf : Cf) (tv : Nat → Int) (o : Int) (x1 : Int) (F : Int → Int → (St → Prop) → St → Prop) (Q : St → Prop) (σ : St) : Prop :=
  lQ1 (wp_Index_giveAll_L2 cf tv o x1 F Q) 0 σ
def wp_Index_giveAll (cf : Cf) (tv : Nat → Int) : Nat → Int → Int → (St → Prop) → St → Prop
  | 0 => fun _ _ _ _ => False
  | n + 1 => fun o x1 Q σ => wp_Index_giveAll_R cf tv o x1 (wp_Index_giveAll cf tv n) Q σ
/-! Index.fetch(I)LNandHouse$Knot; -/
abbrev rm_Index_fetch : Room := { frames := 1, cells := 0, slots := 0, locals := 21 }
def wp_Index_fetch (cf : Cf) (tv : Nat → Int) (o : Int) (x1 : Int) (Q : Int → St → Prop) (σ : St) : Prop :=
  ((0 : Int) ≤ gI σ 386 o ∧ gI σ 386 o < 320) ∧
  ∀ y2_7, y2_7 = gA σ 385 o (gI σ 386 o) →
  ∀ σ_8, σ_8 = sI σ 386 o (w32 ((gI σ 386 o) + 1)) →
  ((0 : Int) ≤ gI σ 386 o ∧ gI σ 386 o < 320) ∧
  ∀ σ_9, σ_9 = sA σ_8 385 o (gI σ 386 o) (-1) →
  0 ≤ y2_7 ∧
  wp_Knot_begin cf tv y2_7 x1 (fun σ_12 => RK σ_12 →
  Q y2_7 σ_12) σ_9
/-! Index.clear()V -/
def wp_Index_clear_b15 (cf : Cf) (tv : Nat → Int) (o : Int) (Q : St → Prop) (σ : St) : Prop :=
  ∀ σ_7, σ_7 = sI σ 390 o 0 →
  wp_Index_fetch cf tv o 0 (fun r_8 σ_9 => rK r_8 → RK σ_9 →
  ∀ σ_10, σ_10 = sI σ_9 387 o r_8 →
  Q σ_10) σ_7
abbrev rm_Index_clear : Room := { frames := 13, cells := 0, slots := 0, locals := 286 }
def wp_Index_clear (cf : Cf) (tv : Nat → Int) (o : Int) (Q : St → Prop) (σ : St) : Prop :=
  ((gI σ 387 o) < 0 →
    wp_Index_clear_b15 cf tv o Q σ) ∧
  (¬ (gI σ 387 o) < 0 →
    wp_Index_giveAll cf tv 12 o (gI σ 387 o) (fun σ_12 => RK σ_12 →
    wp_Index_clear_b15 cf tv o Q σ_12) σ)
/-! Index.seek(JJ)Z -/
def wp_Index_seek_L131 (cf : Cf) (tv : Nat → Int) (o : Int) (x1 : Int) (x3 : Int) (Q : Int → St → Prop) (K154 : Int → Int → St → Prop) (K131 : Int → St → Prop) (y5 : Int) (σ : St) : Prop :=
  0 ≤ y5 ∧
  ((gI σ 576 y5) ≤ 0 →
    K154 y5 0 σ) ∧
  (¬ (gI σ 576 y5) ≤ 0 →
    ((0 : Int) ≤ (0 : Int) ∧ (0 : Int) < 9) ∧
    ∀ y5_24, y5_24 = gA σ 583 y5 0 →
    K131 y5_24 σ)
def wp_Index_seek_b154 (cf : Cf) (tv : Nat → Int) (o : Int) (x1 : Int) (x3 : Int) (Q : Int → St → Prop) (y5 : Int) (y7 : Int) (σ : St) : Prop :=
  ∀ σ_25, σ_25 = sI σ 396 o y5 →
  ∀ σ_26, σ_26 = sI σ_25 397 o y7 →
  0 ≤ y5 ∧
  ((0 : Int) ≤ y7 ∧ y7 < 9) ∧
  ∀ σ_28, σ_28 = sI σ_26 391 o (gA σ_26 578 y5 y7) →
  ((0 : Int) ≤ y7 ∧ y7 < 9) ∧
  ∀ σ_29, σ_29 = sI σ_28 392 o (gA σ_28 579 y5 y7) →
  ((0 : Int) ≤ y7 ∧ y7 < 9) ∧
  ∀ σ_30, σ_30 = sI σ_29 393 o (gA σ_29 580 y5 y7) →
  ((0 : Int) ≤ y7 ∧ y7 < 9) ∧
  ∀ σ_31, σ_31 = sI σ_30 394 o (gA σ_30 581 y5 y7) →
  ((0 : Int) ≤ y7 ∧ y7 < 9) ∧
  ∀ σ_32, σ_32 = sI σ_31 395 o (gA σ_31 582 y5 y7) →
  Q 1 σ_32
def wp_Index_seek_b107 (cf : Cf) (tv : Nat → Int) (o : Int) (x1 : Int) (x3 : Int) (Q : Int → St → Prop) (K110 : Int → Int → Int → St → Prop) (y5 : Int) (y6 : Int) (y7 : Int) (σ : St) : Prop :=
  ∀ y7_33, y7_33 = w32 (y7 + 1) →
  K110 y5 y6 y7_33 σ
def wp_Index_seek_b110 (cf : Cf) (tv : Nat → Int) (o : Int) (x1 : Int) (x3 : Int) (Q : Int → St → Prop) (y5 : Int) (y6 : Int) (y7 : Int) (σ : St) : Prop :=
  0 ≤ y5 ∧
  (¬ y7 = (gI σ 577 y5) →
    wp_Index_seek_b154 cf tv o x1 x3 Q y5 y7 σ) ∧
  (y7 = (gI σ 577 y5) →
    (¬ y6 < 0 →
      lQ1 (wp_Index_seek_L131 cf tv o x1 x3 Q (wp_Index_seek_b154 cf tv o x1 x3 Q)) y6 σ) ∧
    (y6 < 0 →
      Q 0 σ))
def wp_Index_seek_b54 (cf : Cf) (tv : Nat → Int) (o : Int) (x1 : Int) (x3 : Int) (Q : Int → St → Prop) (K9 : Int → Int → St → Prop) (y5 : Int) (y6 : Int) (y7 : Int) (σ : St) : Prop :=
  0 ≤ y5 ∧
  ((0 : Int) ≤ y7 ∧ y7 < 9) ∧
  ∀ y5_36, y5_36 = gA σ 583 y5 y7 →
  K9 y5_36 y6 σ
def wp_Index_seek_L9 (cf : Cf) (tv : Nat → Int) (o : Int) (x1 : Int) (x3 : Int) (Q : Int → St → Prop) (K9 : Int → Int → St → Prop) (y5 : Int) (y6 : Int) (σ : St) : Prop :=
  0 ≤ y5 ∧
  ((gI σ 576 y5) ≤ 0 →
    wp_Knot_slot cf tv y5 x1 x3 (fun r_38 σ_39 => rI r_38 → RK σ_39 →
    (r_38 < 0 →
      wp_Index_seek_b107 cf tv o x1 x3 Q (wp_Index_seek_b110 cf tv o x1 x3 Q) y5 y6 r_38 σ_39) ∧
    (¬ r_38 < 0 →
      ((0 : Int) ≤ r_38 ∧ r_38 < 9) ∧
      (¬ (gA σ_39 578 y5 r_38) = x1 →
        wp_Index_seek_b107 cf tv o x1 x3 Q (wp_Index_seek_b110 cf tv o x1 x3 Q) y5 y6 r_38 σ_39) ∧
      ((gA σ_39 578 y5 r_38) = x1 →
        ((0 : Int) ≤ r_38 ∧ r_38 < 9) ∧
        ((gA σ_39 579 y5 r_38) = x3 →
          wp_Index_seek_b110 cf tv o x1 x3 Q y5 y6 r_38 σ_39) ∧
        (¬ (gA σ_39 579 y5 r_38) = x3 →
          wp_Index_seek_b107 cf tv o x1 x3 Q (wp_Index_seek_b110 cf tv o x1 x3 Q) y5 y6 r_38 σ_39)))) σ) ∧
  (¬ (gI σ 576 y5) ≤ 0 →
    wp_Knot_slot cf tv y5 x1 x3 (fun r_40 σ_41 => rI r_40 → RK σ_41 →
    ∀ y7_42, y7_42 = max 0 r_40 →
    ((gI σ_41 577 y5) ≤ (w32 (y7_42 + 1)) →
      wp_Index_seek_b54 cf tv o x1 x3 Q K9 y5 y6 y7_42 σ_41) ∧
    (¬ (gI σ_41 577 y5) ≤ (w32 (y7_42 + 1)) →
      ((0 : Int) ≤ w32 (y7_42 + 1) ∧ w32 (y7_42 + 1) < 9) ∧
      ∀ y6_43, y6_43 = gA σ_41 583 y5 (w32 (y7_42 + 1)) →
      wp_Index_seek_b54 cf tv o x1 x3 Q K9 y5 y6_43 y7_42 σ_41)) σ)
abbrev rm_Index_seek : Room := { frames := 4, cells := 0, slots := 0, locals := 98 }
def wp_Index_seek (cf : Cf) (tv : Nat → Int) (o : Int) (x1 : Int) (x3 : Int) (Q : Int → St → Prop) (σ : St) : Prop :=
  ∀ y5_44, y5_44 = gI σ 387 o →
  lQ2 (wp_Index_seek_L9 cf tv o x1 x3 Q) y5_44 (-1) σ
/-! Index.find(JJ)Z -/
abbrev rm_Index_find : Room := { frames := 5, cells := 0, slots := 0, locals := 125 }
def wp_Index_find (cf : Cf) (tv : Nat → Int) (o : Int) (x1 : Int) (x3 : Int) (Q : Int → St → Prop) (σ : St) : Prop :=
  wp_Index_seek cf tv o x1 x3 (fun r_3 σ_4 => rZ r_3 → RK σ_4 →
  (r_3 = 0 →
    Q 0 σ_4) ∧
  (¬ r_3 = 0 →
    (¬ (gI σ_4 391 o) = x1 →
      Q 0 σ_4) ∧
    ((gI σ_4 391 o) = x1 →
      (¬ (gI σ_4 392 o) = x3 →
        Q 0 σ_4) ∧
      ((gI σ_4 392 o) = x3 →
        Q 1 σ_4)))) σ
/-! Index.touch(LNandHouse$Knot;)V -/
abbrev rm_Index_touch : Room := { frames := 0, cells := 0, slots := 0, locals := 0 }
def wp_Index_touch (cf : Cf) (tv : Nat → Int) (o : Int) (x1 : Int) (Q : St → Prop) (σ : St) : Prop :=
  0 ≤ x1 ∧
  ((gI σ 584 x1) = 0 →
    ∀ σ_8, σ_8 = sI σ 584 x1 1 →
    ((gI σ_8 585 x1) = (-1) →
      Q σ_8) ∧
    (¬ (gI σ_8 585 x1) = (-1) →
      ((0 : Int) ≤ gI σ_8 390 o ∧ gI σ_8 390 o < 640) ∧
      ∀ σ_9, σ_9 = sA σ_8 388 o (gI σ_8 390 o) (gI σ_8 585 x1) →
      ((0 : Int) ≤ gI σ_9 390 o ∧ gI σ_9 390 o < 640) ∧
      ∀ σ_10, σ_10 = sA σ_9 389 o (gI σ_9 390 o) (gI σ_9 587 x1) →
      ∀ σ_11, σ_11 = sI σ_10 390 o (w32 ((gI σ_10 390 o) + 1)) →
      ∀ σ_12, σ_12 = sI σ_11 585 x1 (-1) →
      Q σ_12)) ∧
  (¬ (gI σ 584 x1) = 0 →
    Q σ)
/-! Index.touchWay(JJ)V -/
def wp_Index_touchWay_L12 (cf : Cf) (tv : Nat → Int) (o : Int) (x1 : Int) (x3 : Int) (Q : St → Prop) (K12 : Int → St → Prop) (y5 : Int) (σ : St) : Prop :=
  0 ≤ y5 ∧
  ((gI σ 576 y5) ≤ 0 →
    Q σ) ∧
  (¬ (gI σ 576 y5) ≤ 0 →
    wp_Knot_slot cf tv y5 x1 x3 (fun r_11 σ_12 => rI r_11 → RK σ_12 →
    ((0 : Int) ≤ max 0 r_11 ∧ max 0 r_11 < 9) ∧
    ∀ y5_13, y5_13 = gA σ_12 583 y5 (max 0 r_11) →
    wp_Index_touch cf tv o y5_13 (fun σ_15 => RK σ_15 →
    K12 y5_13 σ_15) σ_12) σ)
abbrev rm_Index_touchWay : Room := { frames := 4, cells := 0, slots := 0, locals := 98 }
def wp_Index_touchWay (cf : Cf) (tv : Nat → Int) (o : Int) (x1 : Int) (x3 : Int) (Q : St → Prop) (σ : St) : Prop :=
  ∀ y5_16, y5_16 = gI σ 387 o →
  wp_Index_touch cf tv o y5_16 (fun σ_18 => RK σ_18 →
  lQ1 (wp_Index_touchWay_L12 cf tv o x1 x3 Q) y5_16 σ_18) σ
/-! Index.halve(LNandHouse$Knot;)LNandHouse$Knot; -/
def wp_Index_halve_L21 (cf : Cf) (tv : Nat → Int) (o : Int) (x1 : Int) (Q : Int → St → Prop) (K21 : Int → Int → Int → St → Prop) (y2 : Int) (y3 : Int) (y4 : Int) (σ : St) : Prop :=
  0 ≤ x1 ∧
  ((gI σ 577 x1) ≤ y4 →
    ∀ σ_14, σ_14 = sI σ 577 x1 y3 →
    Q y2 σ_14) ∧
  (¬ (gI σ 577 x1) ≤ y4 →
    0 ≤ y2 ∧
    ∀ σ_16, σ_16 = sI σ 577 y2 (w32 ((gI σ 577 y2) + 1)) →
    wp_Knot_take cf tv y2 (gI σ 577 y2) x1 y4 (fun σ_18 => RK σ_18 →
    ((0 : Int) ≤ y4 ∧ y4 < 9) ∧
    ∀ σ_19, σ_19 = sA σ_18 583 x1 y4 (-1) →
    ∀ y4_20, y4_20 = w32 (y4 + 1) →
    K21 y2 y3 y4_20 σ_19) σ_16)
abbrev rm_Index_halve : Room := { frames := 2, cells := 0, slots := 0, locals := 43 }
def wp_Index_halve (cf : Cf) (tv : Nat → Int) (o : Int) (x1 : Int) (Q : Int → St → Prop) (σ : St) : Prop :=
  0 ≤ x1 ∧
  wp_Index_fetch cf tv o (gI σ 576 x1) (fun r_22 σ_23 => rK r_22 → RK σ_23 →
  ∀ y3_24, y3_24 = jdv (w32 ((gI σ_23 577 x1) + 1)) 2 →
  lQ3 (wp_Index_halve_L21 cf tv o x1 Q) r_22 y3_24 y3_24 σ_23) σ
/-! Index.insert(LNandHouse$Knot;JJ)LNandHouse$Knot; -/
def wp_Index_insert_b124 (cf : Cf) (tv : Nat → Int) (o : Int) (x1 : Int) (x2 : Int) (x4 : Int) (F : Int → Int → Int → Int → (Int → St → Prop) → St → Prop) (Q : Int → St → Prop) (σ : St) : Prop :=
  0 ≤ x1 ∧
  ((gI σ 577 x1) ≤ 8 →
    Q (-1) σ) ∧
  (¬ (gI σ 577 x1) ≤ 8 →
    wp_Index_halve cf tv o x1 (fun r_25 σ_26 => rK r_25 → RK σ_26 →
    Q r_25 σ_26) σ)
def wp_Index_insert_b71 (cf : Cf) (tv : Nat → Int) (o : Int) (x1 : Int) (x2 : Int) (x4 : Int) (F : Int → Int → Int → Int → (Int → St → Prop) → St → Prop) (Q : Int → St → Prop) (K124 : St → Prop) (y7 : Int) (σ : St) : Prop :=
  0 ≤ x1 ∧
  ((0 : Int) ≤ y7 ∧ y7 < 9) ∧
  F o (gA σ 583 x1 y7) x2 x4 (fun r_28 σ_29 => rK r_28 → RK σ_29 →
  (r_28 < 0 →
    K124 σ_29) ∧
  (¬ r_28 < 0 →
    wp_Knot_part cf tv x1 (w32 (y7 + 1)) (fun σ_31 => RK σ_31 →
    0 ≤ r_28 ∧
    ((0 : Int) ≤ (0 : Int) ∧ (0 : Int) < 9) ∧
    ((0 : Int) ≤ (0 : Int) ∧ (0 : Int) < 9) ∧
    wp_Knot_set cf tv x1 (w32 (y7 + 1)) (gA σ_31 578 r_28 0) (gA σ_31 579 r_28 0) r_28 (fun σ_34 => RK σ_34 →
    K124 σ_34) σ_31) σ_29)) σ
def rm_Index_insert (n : Nat) : Room := { frames := 4 + 1 * n, cells := 0, slots := 0, locals := 98 + 28 * n }
def wp_Index_insert_R (cf : Cf) (tv : Nat → Int) (o : Int) (x1 : Int) (x2 : Int) (x4 : Int) (F : Int → Int → Int → Int → (Int → St → Prop) → St → Prop) (Q : Int → St → Prop) (σ : St) : Prop :=
  wp_Index_touch cf tv o x1 (fun σ_36 => RK σ_36 →
  0 ≤ x1 ∧
  wp_Knot_slot cf tv x1 x2 x4 (fun r_38 σ_39 => rI r_38 → RK σ_39 →
  (¬ (gI σ_39 576 x1) = 0 →
    ∀ y7_40, y7_40 = max 0 r_38 →
    (0 ≤ r_38 →
      wp_Index_insert_b71 cf tv o x1 x2 x4 F Q (wp_Index_insert_b124 cf tv o x1 x2 x4 F Q) y7_40 σ_39) ∧
    (¬ 0 ≤ r_38 →
      ((0 : Int) ≤ (0 : Int) ∧ (0 : Int) < 9) ∧
      wp_Knot_set cf tv x1 0 x2 x4 (gA σ_39 583 x1 0) (fun σ_42 => RK σ_42 →
      wp_Index_insert_b71 cf tv o x1 x2 x4 F Q (wp_Index_insert_b124 cf tv o x1 x2 x4 F Q) y7_40 σ_42) σ_39)) ∧
  ((gI σ_39 576 x1) = 0 →
    wp_Knot_part cf tv x1 (w32 (r_38 + 1)) (fun σ_44 => RK σ_44 →
    wp_Knot_set cf tv x1 (w32 (r_38 + 1)) x2 x4 (-1) (fun σ_46 => RK σ_46 →
    wp_Index_insert_b124 cf tv o x1 x2 x4 F Q σ_46) σ_44) σ_39)) σ_36) σ
def wp_Index_insert (cf : Cf) (tv : Nat → Int) : Nat → Int → Int → Int → Int → (Int → St → Prop) → St → Prop
  | 0 => fun _ _ _ _ _ _ => False
  | n + 1 => fun o x1 x2 x4 Q σ => wp_Index_insert_R cf tv o x1 x2 x4 (wp_Index_insert cf tv n) Q σ
/-! Index.grow(LNandHouse$Knot;)V -/
abbrev rm_Index_grow : Room := { frames := 2, cells := 0, slots := 0, locals := 43 }
def wp_Index_grow (cf : Cf) (tv : Nat → Int) (o : Int) (x1 : Int) (Q : St → Prop) (σ : St) : Prop :=
  0 ≤ gI σ 387 o ∧
  wp_Index_fetch cf tv o (w32 ((gI σ 576 (gI σ 387 o)) + 1)) (fun r_14 σ_15 => rK r_14 → RK σ_15 →
  0 ≤ r_14 ∧
  ∀ σ_17, σ_17 = sI σ_15 577 r_14 2 →
  0 ≤ gI σ_17 387 o ∧
  ((0 : Int) ≤ (0 : Int) ∧ (0 : Int) < 9) ∧
  ((0 : Int) ≤ (0 : Int) ∧ (0 : Int) < 9) ∧
  wp_Knot_set cf tv r_14 0 (gA σ_17 578 (gI σ_17 387 o) 0) (gA σ_17 579 (gI σ_17 387 o) 0) (gI σ_17 387 o) (fun σ_20 => RK σ_20 →
  0 ≤ x1 ∧
  ((0 : Int) ≤ (0 : Int) ∧ (0 : Int) < 9) ∧
  ((0 : Int) ≤ (0 : Int) ∧ (0 : Int) < 9) ∧
  wp_Knot_set cf tv r_14 1 (gA σ_20 578 x1 0) (gA σ_20 579 x1 0) x1 (fun σ_23 => RK σ_23 →
  ∀ σ_24, σ_24 = sI σ_23 387 o r_14 →
  Q σ_24) σ_20) σ_17) σ
/-! Index.put(JJIII)V -/
def wp_Index_put_b64 (cf : Cf) (tv : Nat → Int) (o : Int) (x1 : Int) (x3 : Int) (x5 : Int) (x6 : Int) (x7 : Int) (Q : St → Prop) (K71 : St → Prop) (σ : St) : Prop :=
  wp_Index_find cf tv o x1 x3 (fun r_19 σ_20 => rZ r_19 → RK σ_20 →
  K71 σ_20) σ
def wp_Index_put_b71 (cf : Cf) (tv : Nat → Int) (o : Int) (x1 : Int) (x3 : Int) (x5 : Int) (x6 : Int) (x7 : Int) (Q : St → Prop) (σ : St) : Prop :=
  0 ≤ gI σ 396 o ∧
  ((0 : Int) ≤ gI σ 397 o ∧ gI σ 397 o < 9) ∧
  ∀ σ_22, σ_22 = sA σ 580 (gI σ 396 o) (gI σ 397 o) x5 →
  0 ≤ gI σ_22 396 o ∧
  ((0 : Int) ≤ gI σ_22 397 o ∧ gI σ_22 397 o < 9) ∧
  ∀ σ_24, σ_24 = sA σ_22 581 (gI σ_22 396 o) (gI σ_22 397 o) x6 →
  0 ≤ gI σ_24 396 o ∧
  ((0 : Int) ≤ gI σ_24 397 o ∧ gI σ_24 397 o < 9) ∧
  ∀ σ_26, σ_26 = sA σ_24 582 (gI σ_24 396 o) (gI σ_24 397 o) x7 →
  ((0 : Int) ≤ x5 ∧ x5 < (cf.1 - 6)) ∧
  ((0 : Int) ≤ x5 ∧ x5 < (cf.1 - 6)) ∧
  ∀ σ_27, σ_27 = sA σ_26 324 o x5 (w32 ((gA σ_26 324 o x5) + x7)) →
  Q σ_27
abbrev rm_Index_put : Room := { frames := 17, cells := 0, slots := 0, locals := 462 }
def wp_Index_put (cf : Cf) (tv : Nat → Int) (o : Int) (x1 : Int) (x3 : Int) (x5 : Int) (x6 : Int) (x7 : Int) (Q : St → Prop) (σ : St) : Prop :=
  wp_Index_find cf tv o x1 x3 (fun r_28 σ_29 => rZ r_28 → RK σ_29 →
  (r_28 = 0 →
    wp_Index_insert cf tv 12 o (gI σ_29 387 o) x1 x3 (fun r_30 σ_31 => rK r_30 → RK σ_31 →
    (r_30 < 0 →
      wp_Index_put_b64 cf tv o x1 x3 x5 x6 x7 Q (wp_Index_put_b71 cf tv o x1 x3 x5 x6 x7 Q) σ_31) ∧
    (¬ r_30 < 0 →
      wp_Index_grow cf tv o r_30 (fun σ_33 => RK σ_33 →
      wp_Index_put_b64 cf tv o x1 x3 x5 x6 x7 Q (wp_Index_put_b71 cf tv o x1 x3 x5 x6 x7 Q) σ_33) σ_31)) σ_29) ∧
  (¬ r_28 = 0 →
    ((0 : Int) ≤ gI σ_29 393 o ∧ gI σ_29 393 o < (cf.1 - 6)) ∧
    ((0 : Int) ≤ gI σ_29 393 o ∧ gI σ_29 393 o < (cf.1 - 6)) ∧
    ∀ σ_34, σ_34 = sA σ_29 324 o (gI σ_29 393 o) (w32 ((gA σ_29 324 o (gI σ_29 393 o)) - (gI σ_29 395 o))) →
    wp_Index_touchWay cf tv o x1 x3 (fun σ_36 => RK σ_36 →
    wp_Index_put_b71 cf tv o x1 x3 x5 x6 x7 Q σ_36) σ_34)) σ
/-! Index.sizeOf(LNandHouse$Knot;)I -/
abbrev rm_Index_sizeOf : Room := { frames := 1, cells := 0, slots := 0, locals := 20 }
def wp_Index_sizeOf (cf : Cf) (tv : Nat → Int) (x0 : Int) (Q : Int → St → Prop) (σ : St) : Prop :=
  0 ≤ x0 ∧
  wp_House_eights cf tv (w32 (32 + (w32 (28 * (gI σ 577 x0))))) (fun r_5 σ_6 => rI r_5 → RK σ_6 →
  Q r_5 σ_6) σ
/-! Index.written()V -/
def wp_Index_written_L2 (cf : Cf) (tv : Nat → Int) (o : Int) (Q : St → Prop) (K2 : Int → St → Prop) (y1 : Int) (σ : St) : Prop :=
  ((gI σ 390 o) ≤ y1 →
    ∀ σ_7, σ_7 = sI σ 390 o 0 →
    Q σ_7) ∧
  (¬ (gI σ 390 o) ≤ y1 →
    ((0 : Int) ≤ y1 ∧ y1 < 640) ∧
    ((0 : Int) ≤ gA σ 388 o y1 ∧ gA σ 388 o y1 < (cf.1 - 6)) ∧
    ((0 : Int) ≤ y1 ∧ y1 < 640) ∧
    ((0 : Int) ≤ gA σ 388 o y1 ∧ gA σ 388 o y1 < (cf.1 - 6)) ∧
    ∀ σ_8, σ_8 = sA σ 324 o (gA σ 388 o y1) (w32 ((gA σ 324 o (gA σ 388 o y1)) - (gA σ 389 o y1))) →
    ∀ y1_9, y1_9 = w32 (y1 + 1) →
    K2 y1_9 σ_8)
abbrev rm_Index_written : Room := { frames := 0, cells := 0, slots := 0, locals := 0 }
def wp_Index_written (cf : Cf) (tv : Nat → Int) (o : Int) (Q : St → Prop) (σ : St) : Prop :=
  lQ1 (wp_Index_written_L2 cf tv o Q) 0 σ
/-! Index.freshBytes(LNandHouse$Knot;)I -/
def wp_Index_freshBytes_L18 (cf : Cf) (tv : Nat → Int) (o : Int) (x1 : Int) (F : Int → Int → (Int → St → Prop) → St → Prop) (Q : Int → St → Prop) (K18 : Int → Int → St → Prop) (y2 : Int) (y3 : Int) (σ : St) : Prop :=
  0 ≤ x1 ∧
  ((gI σ 584 x1) = 0 →
    Q y2 σ) ∧
  (¬ (gI σ 584 x1) = 0 →
    ((gI σ 577 x1) ≤ y3 →
      Q y2 σ) ∧
    (¬ (gI σ 577 x1) ≤ y3 →
      ((gI σ 576 x1) ≤ 0 →
        Q y2 σ) ∧
      (¬ (gI σ 576 x1) ≤ 0 →
        ((0 : Int) ≤ y3 ∧ y3 < 9) ∧
        F o (gA σ 583 x1 y3) (fun r_18 σ_19 => rI r_18 → RK σ_19 →
        ∀ y2_20, y2_20 = w32 (y2 + r_18) →
        ∀ y3_21, y3_21 = w32 (y3 + 1) →
        K18 y2_20 y3_21 σ_19) σ)))
def wp_Index_freshBytes_b15 (cf : Cf) (tv : Nat → Int) (o : Int) (x1 : Int) (F : Int → Int → (Int → St → Prop) → St → Prop) (Q : Int → St → Prop) (t0 : Int) (σ : St) : Prop :=
  lQ2 (wp_Index_freshBytes_L18 cf tv o x1 F Q) t0 0 σ
def rm_Index_freshBytes (n : Nat) : Room := { frames := 2 + 1 * n, cells := 0, slots := 0, locals := 40 + 23 * n }
def wp_Index_freshBytes_R (cf : Cf) (tv : Nat → Int) (o : Int) (x1 : Int) (F : Int → Int → (Int → St → Prop) → St → Prop) (Q : Int → St → Prop) (σ : St) : Prop :=
  0 ≤ x1 ∧
  ((gI σ 584 x1) = 0 →
    wp_Index_freshBytes_b15 cf tv o x1 F Q 0 σ) ∧
  (¬ (gI σ 584 x1) = 0 →
    wp_Index_sizeOf cf tv x1 (fun r_23 σ_24 => rI r_23 → RK σ_24 →
    wp_Index_freshBytes_b15 cf tv o x1 F Q r_23 σ_24) σ)
def wp_Index_freshBytes (cf : Cf) (tv : Nat → Int) : Nat → Int → Int → (Int → St → Prop) → St → Prop
  | 0 => fun _ _ _ _ => False
  | n + 1 => fun o x1 Q σ => wp_Index_freshBytes_R cf tv o x1 (wp_Index_freshBytes cf tv n) Q σ
/-! Index.stirAll(LNandHouse$Knot;)V -/
def wp_Index_stirAll_L7 (cf : Cf) (tv : Nat → Int) (o : Int) (x1 : Int) (F : Int → Int → (St → Prop) → St → Prop) (Q : St → Prop) (K7 : Int → St → Prop) (y2 : Int) (σ : St) : Prop :=
  0 ≤ x1 ∧
  ((gI σ 577 x1) ≤ y2 →
    Q σ) ∧
  (¬ (gI σ 577 x1) ≤ y2 →
    ((gI σ 576 x1) ≤ 0 →
      Q σ) ∧
    (¬ (gI σ 576 x1) ≤ 0 →
      ((0 : Int) ≤ y2 ∧ y2 < 9) ∧
      F o (gA σ 583 x1 y2) (fun σ_15 => RK σ_15 →
      ∀ y2_16, y2_16 = w32 (y2 + 1) →
      K7 y2_16 σ_15) σ))
def rm_Index_stirAll (n : Nat) : Room := { frames := 1 + 1 * n, cells := 0, slots := 0, locals := 21 + 22 * n }
def wp_Index_stirAll_R (cf : Cf) (tv : Nat → Int) (o : Int) (x1 : Int) (F : Int → Int → (St → Prop) → St → Prop) (Q : St → Prop) (σ : St) : Prop :=
  wp_Index_touch cf tv o x1 (fun σ_18 => RK σ_18 →
  lQ1 (wp_Index_stirAll_L7 cf tv o x1 F Q) 0 σ_18) σ
def wp_Index_stirAll (cf : Cf) (tv : Nat → Int) : Nat → Int → Int → (St → Prop) → St → Prop
  | 0 => fun _ _ _ _ => False
  | n + 1 => fun o x1 Q σ => wp_Index_stirAll_R cf tv o x1 (wp_Index_stirAll cf tv n) Q σ
/-! Index.next()Z -/
abbrev rm_Index_next : Room := { frames := 5, cells := 0, slots := 0, locals := 125 }
def wp_Index_next (cf : Cf) (tv : Nat → Int) (o : Int) (Q : Int → St → Prop) (σ : St) : Prop :=
  (¬ (gI σ 392 o) = (-1) →
    wp_Index_seek cf tv o (gI σ 391 o) (w64 ((gI σ 392 o) + 1)) (fun r_5 σ_6 => rZ r_5 → RK σ_6 →
    Q r_5 σ_6) σ) ∧
  ((gI σ 392 o) = (-1) →
    wp_Index_seek cf tv o (w64 ((gI σ 391 o) + 1)) 0 (fun r_7 σ_8 => rZ r_7 → RK σ_8 →
    Q r_7 σ_8) σ)
/-! Index.stir(IJJII)V -/
def wp_Index_stir_L88 (cf : Cf) (tv : Nat → Int) (o : Int) (x1 : Int) (x2 : Int) (x4 : Int) (x6 : Int) (x7 : Int) (Q : St → Prop) (K88 : Int → St → Prop) (y9 : Int) (σ : St) : Prop :=
  0 ≤ y9 ∧
  ((gI σ 576 y9) ≤ x1 →
    Q σ) ∧
  (¬ (gI σ 576 y9) ≤ x1 →
    wp_Knot_slot cf tv y9 x2 x4 (fun r_16 σ_17 => rI r_16 → RK σ_17 →
    ((0 : Int) ≤ max 0 r_16 ∧ max 0 r_16 < 9) ∧
    ∀ y9_18, y9_18 = gA σ_17 583 y9 (max 0 r_16) →
    wp_Index_touch cf tv o y9_18 (fun σ_20 => RK σ_20 →
    K88 y9_18 σ_20) σ_17) σ)
def wp_Index_stir_L6 (cf : Cf) (tv : Nat → Int) (o : Int) (x1 : Int) (x2 : Int) (x4 : Int) (x6 : Int) (x7 : Int) (Q : St → Prop) (K6 : Int → St → Prop) (y8 : Int) (σ : St) : Prop :=
  0 ≤ y8 ∧
  ((gI σ 576 y8) ≤ x1 →
    (¬ (gI σ 576 y8) = x1 →
      Q σ) ∧
    ((gI σ 576 y8) = x1 →
      (¬ (gI σ 584 y8) = 0 →
        Q σ) ∧
      ((gI σ 584 y8) = 0 →
        (¬ (gI σ 585 y8) = x6 →
          Q σ) ∧
        ((gI σ 585 y8) = x6 →
          ((gI σ 586 y8) = x7 →
            ∀ y9_22, y9_22 = gI σ 387 o →
            wp_Index_touch cf tv o y9_22 (fun σ_24 => RK σ_24 →
            lQ1 (wp_Index_stir_L88 cf tv o x1 x2 x4 x6 x7 Q) y9_22 σ_24) σ) ∧
          (¬ (gI σ 586 y8) = x7 →
            Q σ))))) ∧
  (¬ (gI σ 576 y8) ≤ x1 →
    wp_Knot_slot cf tv y8 x2 x4 (fun r_25 σ_26 => rI r_25 → RK σ_26 →
    ((0 : Int) ≤ max 0 r_25 ∧ max 0 r_25 < 9) ∧
    ∀ y8_27, y8_27 = gA σ_26 583 y8 (max 0 r_25) →
    K6 y8_27 σ_26) σ)
abbrev rm_Index_stir : Room := { frames := 4, cells := 0, slots := 0, locals := 98 }
def wp_Index_stir (cf : Cf) (tv : Nat → Int) (o : Int) (x1 : Int) (x2 : Int) (x4 : Int) (x6 : Int) (x7 : Int) (Q : St → Prop) (σ : St) : Prop :=
  ∀ y8_28, y8_28 = gI σ 387 o →
  lQ1 (wp_Index_stir_L6 cf tv o x1 x2 x4 x6 x7 Q) y8_28 σ
/-! Index.give(LNandHouse$Knot;)V -/
def wp_Index_give_L7 (cf : Cf) (tv : Nat → Int) (o : Int) (x1 : Int) (Q : St → Prop) (K7 : Int → St → Prop) (y2 : Int) (σ : St) : Prop :=
  0 ≤ x1 ∧
  ((gI σ 577 x1) ≤ y2 →
    ∀ σ_16, σ_16 = sI σ 386 o (w32 ((gI σ 386 o) - 1)) →
    ((0 : Int) ≤ w32 ((gI σ 386 o) - 1) ∧ w32 ((gI σ 386 o) - 1) < 320) ∧
    ∀ σ_17, σ_17 = sA σ_16 385 o (w32 ((gI σ 386 o) - 1)) x1 →
    Q σ_17) ∧
  (¬ (gI σ 577 x1) ≤ y2 →
    ((0 : Int) ≤ y2 ∧ y2 < 9) ∧
    ∀ σ_18, σ_18 = sA σ 583 x1 y2 (-1) →
    ∀ y2_19, y2_19 = w32 (y2 + 1) →
    K7 y2_19 σ_18)
abbrev rm_Index_give : Room := { frames := 1, cells := 0, slots := 0, locals := 21 }
def wp_Index_give (cf : Cf) (tv : Nat → Int) (o : Int) (x1 : Int) (Q : St → Prop) (σ : St) : Prop :=
  wp_Index_touch cf tv o x1 (fun σ_21 => RK σ_21 →
  lQ1 (wp_Index_give_L7 cf tv o x1 Q) 0 σ_21) σ
/-! Index.mend(LNandHouse$Knot;I)V -/
def wp_Index_mend_L113 (cf : Cf) (tv : Nat → Int) (o : Int) (x1 : Int) (x2 : Int) (Q : St → Prop) (K195 : Int → Int → Int → St → Prop) (K113 : Int → Int → Int → St → Prop) (y3 : Int) (y4 : Int) (y5 : Int) (σ : St) : Prop :=
  0 ≤ y3 ∧
  ((jdv y5 2) ≤ (gI σ 577 y3) →
    K195 y3 y4 y5 σ) ∧
  (¬ (jdv y5 2) ≤ (gI σ 577 y3) →
    ∀ σ_88, σ_88 = sI σ 577 y3 (w32 ((gI σ 577 y3) + 1)) →
    wp_Knot_take cf tv y3 (gI σ 577 y3) y4 0 (fun σ_90 => RK σ_90 →
    0 ≤ y4 ∧
    wp_Knot_leave cf tv y4 0 (fun σ_93 => RK σ_93 →
    K113 y3 y4 y5 σ_93) σ_90) σ_88)
def wp_Index_mend_L50 (cf : Cf) (tv : Nat → Int) (o : Int) (x1 : Int) (x2 : Int) (Q : St → Prop) (K195 : Int → Int → Int → St → Prop) (K50 : Int → Int → Int → Int → St → Prop) (y3 : Int) (y4 : Int) (y5 : Int) (y6 : Int) (σ : St) : Prop :=
  0 ≤ y4 ∧
  ((gI σ 577 y4) ≤ y6 →
    wp_Index_give cf tv o y4 (fun σ_96 => RK σ_96 →
    0 ≤ x1 ∧
    wp_Knot_leave cf tv x1 (w32 (x2 + 1)) (fun σ_99 => RK σ_99 →
    K195 y3 y4 y5 σ_99) σ_96) σ) ∧
  (¬ (gI σ 577 y4) ≤ y6 →
    0 ≤ y3 ∧
    ∀ σ_101, σ_101 = sI σ 577 y3 (w32 ((gI σ 577 y3) + 1)) →
    wp_Knot_take cf tv y3 (gI σ 577 y3) y4 y6 (fun σ_103 => RK σ_103 →
    ∀ y6_104, y6_104 = w32 (y6 + 1) →
    K50 y3 y4 y5 y6_104 σ_103) σ_101)
def wp_Index_mend_b195 (cf : Cf) (tv : Nat → Int) (o : Int) (x1 : Int) (x2 : Int) (Q : St → Prop) (y3 : Int) (y4 : Int) (y5 : Int) (σ : St) : Prop :=
  0 ≤ y3 ∧
  ((0 : Int) ≤ (0 : Int) ∧ (0 : Int) < 9) ∧
  ((0 : Int) ≤ (0 : Int) ∧ (0 : Int) < 9) ∧
  0 ≤ x1 ∧
  wp_Knot_set cf tv x1 x2 (gA σ 578 y3 0) (gA σ 579 y3 0) y3 (fun σ_108 => RK σ_108 →
  ((gI σ_108 577 x1) ≤ (w32 (x2 + 1)) →
    Q σ_108) ∧
  (¬ (gI σ_108 577 x1) ≤ (w32 (x2 + 1)) →
    ((0 : Int) ≤ w32 (x2 + 1) ∧ w32 (x2 + 1) < 9) ∧
    (¬ (gA σ_108 583 x1 (w32 (x2 + 1))) = y4 →
      Q σ_108) ∧
    ((gA σ_108 583 x1 (w32 (x2 + 1))) = y4 →
      (y5 ≤ 8 →
        Q σ_108) ∧
      (¬ y5 ≤ 8 →
        0 ≤ y4 ∧
        ((0 : Int) ≤ (0 : Int) ∧ (0 : Int) < 9) ∧
        ((0 : Int) ≤ (0 : Int) ∧ (0 : Int) < 9) ∧
        wp_Knot_set cf tv x1 (w32 (x2 + 1)) (gA σ_108 578 y4 0) (gA σ_108 579 y4 0) y4 (fun σ_111 => RK σ_111 →
        Q σ_111) σ_108)))) σ
def wp_Index_mend_L151 (cf : Cf) (tv : Nat → Int) (o : Int) (x1 : Int) (x2 : Int) (Q : St → Prop) (K195 : Int → Int → Int → St → Prop) (K151 : Int → Int → Int → St → Prop) (y3 : Int) (y4 : Int) (y5 : Int) (σ : St) : Prop :=
  0 ≤ y4 ∧
  ((jdv y5 2) ≤ (gI σ 577 y4) →
    K195 y3 y4 y5 σ) ∧
  (¬ (jdv y5 2) ≤ (gI σ 577 y4) →
    wp_Knot_part cf tv y4 0 (fun σ_114 => RK σ_114 →
    0 ≤ y3 ∧
    wp_Knot_take cf tv y4 0 y3 (w32 ((gI σ_114 577 y3) - 1)) (fun σ_117 => RK σ_117 →
    wp_Knot_leave cf tv y3 (w32 ((gI σ_117 577 y3) - 1)) (fun σ_119 => RK σ_119 →
    K151 y3 y4 y5 σ_119) σ_117) σ_114) σ)
abbrev rm_Index_mend : Room := { frames := 2, cells := 0, slots := 0, locals := 45 }
def wp_Index_mend (cf : Cf) (tv : Nat → Int) (o : Int) (x1 : Int) (x2 : Int) (Q : St → Prop) (σ : St) : Prop :=
  0 ≤ x1 ∧
  ((0 : Int) ≤ x2 ∧ x2 < 9) ∧
  ∀ y3_121, y3_121 = gA σ 583 x1 x2 →
  ((0 : Int) ≤ w32 (x2 + 1) ∧ w32 (x2 + 1) < 9) ∧
  ∀ y4_122, y4_122 = gA σ 583 x1 (w32 (x2 + 1)) →
  wp_Index_touch cf tv o y3_121 (fun σ_124 => RK σ_124 →
  wp_Index_touch cf tv o y4_122 (fun σ_126 => RK σ_126 →
  0 ≤ y3_121 ∧
  0 ≤ y4_122 ∧
  ∀ y5_129, y5_129 = w32 ((gI σ_126 577 y3_121) + (gI σ_126 577 y4_122)) →
  (8 < y5_129 →
    ((gI σ_126 577 y4_122) ≤ (gI σ_126 577 y3_121) →
      lQ3 (wp_Index_mend_L151 cf tv o x1 x2 Q (wp_Index_mend_b195 cf tv o x1 x2 Q)) y3_121 y4_122 y5_129 σ_126) ∧
    (¬ (gI σ_126 577 y4_122) ≤ (gI σ_126 577 y3_121) →
      lQ3 (wp_Index_mend_L113 cf tv o x1 x2 Q (wp_Index_mend_b195 cf tv o x1 x2 Q)) y3_121 y4_122 y5_129 σ_126)) ∧
  (¬ 8 < y5_129 →
    lQ4 (wp_Index_mend_L50 cf tv o x1 x2 Q (wp_Index_mend_b195 cf tv o x1 x2 Q)) y3_121 y4_122 y5_129 0 σ_126)) σ_124) σ
/-! Index.take(LNandHouse$Knot;JJ)V -/
def wp_Index_take_b112 (cf : Cf) (tv : Nat → Int) (o : Int) (x1 : Int) (x2 : Int) (x4 : Int) (F : Int → Int → Int → Int → (St → Prop) → St → Prop) (Q : St → Prop) (t0 : Int) (t1 : Int) (σ : St) : Prop :=
  wp_Index_mend cf tv o t1 t0 (fun σ_20 => RK σ_20 →
  Q σ_20) σ
def wp_Index_take_b80 (cf : Cf) (tv : Nat → Int) (o : Int) (x1 : Int) (x2 : Int) (x4 : Int) (F : Int → Int → Int → Int → (St → Prop) → St → Prop) (Q : St → Prop) (y6 : Int) (y7 : Int) (σ : St) : Prop :=
  0 ≤ y7 ∧
  (4 ≤ (gI σ 577 y7) →
    Q σ) ∧
  (¬ 4 ≤ (gI σ 577 y7) →
    0 ≤ x1 ∧
    ((gI σ 577 x1) ≤ 1 →
      Q σ) ∧
    (¬ (gI σ 577 x1) ≤ 1 →
      (¬ y6 = 0 →
        wp_Index_take_b112 cf tv o x1 x2 x4 F Q (w32 (y6 - 1)) x1 σ) ∧
      (y6 = 0 →
        wp_Index_take_b112 cf tv o x1 x2 x4 F Q 0 x1 σ)))
def rm_Index_take (n : Nat) : Room := { frames := 4 + 1 * n, cells := 0, slots := 0, locals := 98 + 27 * n }
def wp_Index_take_R (cf : Cf) (tv : Nat → Int) (o : Int) (x1 : Int) (x2 : Int) (x4 : Int) (F : Int → Int → Int → Int → (St → Prop) → St → Prop) (Q : St → Prop) (σ : St) : Prop :=
  wp_Index_touch cf tv o x1 (fun σ_24 => RK σ_24 →
  0 ≤ x1 ∧
  wp_Knot_slot cf tv x1 x2 x4 (fun r_26 σ_27 => rI r_26 → RK σ_27 →
  ∀ y6_28, y6_28 = max 0 r_26 →
  (¬ (gI σ_27 576 x1) = 0 →
    ((0 : Int) ≤ y6_28 ∧ y6_28 < 9) ∧
    ∀ y7_29, y7_29 = gA σ_27 583 x1 y6_28 →
    F o y7_29 x2 x4 (fun σ_31 => RK σ_31 →
    0 ≤ y7_29 ∧
    ((gI σ_31 577 y7_29) ≤ 0 →
      wp_Index_take_b80 cf tv o x1 x2 x4 F Q y6_28 y7_29 σ_31) ∧
    (¬ (gI σ_31 577 y7_29) ≤ 0 →
      ((0 : Int) ≤ (0 : Int) ∧ (0 : Int) < 9) ∧
      ((0 : Int) ≤ (0 : Int) ∧ (0 : Int) < 9) ∧
      wp_Knot_set cf tv x1 y6_28 (gA σ_31 578 y7_29 0) (gA σ_31 579 y7_29 0) y7_29 (fun σ_34 => RK σ_34 →
      wp_Index_take_b80 cf tv o x1 x2 x4 F Q y6_28 y7_29 σ_34) σ_31)) σ_27) ∧
  ((gI σ_27 576 x1) = 0 →
    wp_Knot_leave cf tv x1 y6_28 (fun σ_36 => RK σ_36 →
    Q σ_36) σ_27)) σ_24) σ
def wp_Index_take (cf : Cf) (tv : Nat → Int) : Nat → Int → Int → Int → Int → (St → Prop) → St → Prop
  | 0 => fun _ _ _ _ _ _ => False
  | n + 1 => fun o x1 x2 x4 Q σ => wp_Index_take_R cf tv o x1 x2 x4 (wp_Index_take cf tv n) Q σ
/-! Index.remove(JJ)V -/
def wp_Index_remove_L39 (cf : Cf) (tv : Nat → Int) (o : Int) (x1 : Int) (x3 : Int) (Q : St → Prop) (K39 : St → Prop) (σ : St) : Prop :=
  0 ≤ gI σ 387 o ∧
  ((gI σ 576 (gI σ 387 o)) ≤ 0 →
    Q σ) ∧
  (¬ (gI σ 576 (gI σ 387 o)) ≤ 0 →
    (¬ (gI σ 577 (gI σ 387 o)) = 1 →
      Q σ) ∧
    ((gI σ 577 (gI σ 387 o)) = 1 →
      ∀ y5_12, y5_12 = gI σ 387 o →
      ((0 : Int) ≤ (0 : Int) ∧ (0 : Int) < 9) ∧
      ∀ σ_13, σ_13 = sI σ 387 o (gA σ 583 y5_12 0) →
      wp_Index_give cf tv o y5_12 (fun σ_15 => RK σ_15 →
      K39 σ_15) σ_13))
abbrev rm_Index_remove : Room := { frames := 17, cells := 0, slots := 0, locals := 449 }
def wp_Index_remove (cf : Cf) (tv : Nat → Int) (o : Int) (x1 : Int) (x3 : Int) (Q : St → Prop) (σ : St) : Prop :=
  wp_Index_find cf tv o x1 x3 (fun r_16 σ_17 => rZ r_16 → RK σ_17 →
  (¬ r_16 = 0 →
    ((0 : Int) ≤ gI σ_17 393 o ∧ gI σ_17 393 o < (cf.1 - 6)) ∧
    ((0 : Int) ≤ gI σ_17 393 o ∧ gI σ_17 393 o < (cf.1 - 6)) ∧
    ∀ σ_18, σ_18 = sA σ_17 324 o (gI σ_17 393 o) (w32 ((gA σ_17 324 o (gI σ_17 393 o)) - (gI σ_17 395 o))) →
    wp_Index_take cf tv 12 o (gI σ_18 387 o) x1 x3 (fun σ_20 => RK σ_20 →
    lQ0 (wp_Index_remove_L39 cf tv o x1 x3 Q) σ_20) σ_18) ∧
  (r_16 = 0 →
    Q σ_17)) σ
/-! Index.plant(LNandHouse$Knot;)V -/
abbrev rm_Index_plant : Room := { frames := 13, cells := 0, slots := 0, locals := 286 }
def wp_Index_plant (cf : Cf) (tv : Nat → Int) (o : Int) (x1 : Int) (Q : St → Prop) (σ : St) : Prop :=
  wp_Index_giveAll cf tv 12 o (gI σ 387 o) (fun σ_5 => RK σ_5 →
  ∀ σ_6, σ_6 = sI σ_5 387 o x1 →
  Q σ_6) σ
/-! Index.isSound(LNandHouse$Knot;Z)Z -/
def wp_Index_isSound_b224 (cf : Cf) (tv : Nat → Int) (o : Int) (x1 : Int) (x2 : Int) (F : Int → Int → Int → (Int → St → Prop) → St → Prop) (Q : Int → St → Prop) (K269 : Int → Int → St → Prop) (y4 : Int) (t0 : Int) (t1 : Int) (σ : St) : Prop :=
  ∀ y3_58, y3_58 = iand t1 t0 →
  0 ≤ x1 ∧
  ((gI σ 577 x1) ≤ (w32 (y4 + 1)) →
    K269 y3_58 y4 σ) ∧
  (¬ (gI σ 577 x1) ≤ (w32 (y4 + 1)) →
    ((0 : Int) ≤ w32 (y4 + 1) ∧ w32 (y4 + 1) < 9) ∧
    ((0 : Int) ≤ w32 (y4 + 1) ∧ w32 (y4 + 1) < 9) ∧
    wp_Knot_isBefore cf tv (gI σ 391 o) (gI σ 392 o) (gA σ 578 x1 (w32 (y4 + 1))) (gA σ 579 x1 (w32 (y4 + 1))) (fun r_60 σ_61 => rZ r_60 → RK σ_61 →
    ∀ y3_62, y3_62 = iand y3_58 r_60 →
    K269 y3_62 y4 σ_61) σ)
def wp_Index_isSound_b269 (cf : Cf) (tv : Nat → Int) (o : Int) (x1 : Int) (x2 : Int) (F : Int → Int → Int → (Int → St → Prop) → St → Prop) (Q : Int → St → Prop) (K49 : Int → Int → St → Prop) (y3 : Int) (y4 : Int) (σ : St) : Prop :=
  ∀ y4_63, y4_63 = w32 (y4 + 1) →
  K49 y3 y4_63 σ
def wp_Index_isSound_b223 (cf : Cf) (tv : Nat → Int) (o : Int) (x1 : Int) (x2 : Int) (F : Int → Int → Int → (Int → St → Prop) → St → Prop) (Q : Int → St → Prop) (K224 : Int → Int → Int → St → Prop) (y4 : Int) (t0 : Int) (σ : St) : Prop :=
  K224 y4 0 t0 σ
def wp_Index_isSound_b102 (cf : Cf) (tv : Nat → Int) (o : Int) (x1 : Int) (x2 : Int) (F : Int → Int → Int → (Int → St → Prop) → St → Prop) (Q : Int → St → Prop) (K107 : Int → Int → Int → St → Prop) (y4 : Int) (t0 : Int) (σ : St) : Prop :=
  K107 y4 1 t0 σ
def wp_Index_isSound_b107 (cf : Cf) (tv : Nat → Int) (o : Int) (x1 : Int) (x2 : Int) (F : Int → Int → Int → (Int → St → Prop) → St → Prop) (Q : Int → St → Prop) (K49 : Int → Int → St → Prop) (y4 : Int) (t0 : Int) (t1 : Int) (σ : St) : Prop :=
  ∀ y3_64, y3_64 = iand t1 t0 →
  0 ≤ x1 ∧
  (¬ (gI σ 576 x1) = 0 →
    ((0 : Int) ≤ y4 ∧ y4 < 9) ∧
    ∀ y5_66, y5_66 = gA σ 583 x1 y4 →
    0 ≤ y5_66 ∧
    (¬ (gI σ 576 y5_66) = (w32 ((gI σ 576 x1) - 1)) →
      wp_Index_isSound_b223 cf tv o x1 x2 F Q (wp_Index_isSound_b224 cf tv o x1 x2 F Q (wp_Index_isSound_b269 cf tv o x1 x2 F Q K49)) y4 y3_64 σ) ∧
    ((gI σ 576 y5_66) = (w32 ((gI σ 576 x1) - 1)) →
      ((gI σ 577 y5_66) ≤ 0 →
        wp_Index_isSound_b223 cf tv o x1 x2 F Q (wp_Index_isSound_b224 cf tv o x1 x2 F Q (wp_Index_isSound_b269 cf tv o x1 x2 F Q K49)) y4 y3_64 σ) ∧
      (¬ (gI σ 577 y5_66) ≤ 0 →
        ((0 : Int) ≤ (0 : Int) ∧ (0 : Int) < 9) ∧
        ((0 : Int) ≤ y4 ∧ y4 < 9) ∧
        (¬ (gA σ 578 y5_66 0) = (gA σ 578 x1 y4) →
          wp_Index_isSound_b223 cf tv o x1 x2 F Q (wp_Index_isSound_b224 cf tv o x1 x2 F Q (wp_Index_isSound_b269 cf tv o x1 x2 F Q K49)) y4 y3_64 σ) ∧
        ((gA σ 578 y5_66 0) = (gA σ 578 x1 y4) →
          ((0 : Int) ≤ (0 : Int) ∧ (0 : Int) < 9) ∧
          ((0 : Int) ≤ y4 ∧ y4 < 9) ∧
          (¬ (gA σ 579 y5_66 0) = (gA σ 579 x1 y4) →
            wp_Index_isSound_b223 cf tv o x1 x2 F Q (wp_Index_isSound_b224 cf tv o x1 x2 F Q (wp_Index_isSound_b269 cf tv o x1 x2 F Q K49)) y4 y3_64 σ) ∧
          ((gA σ 579 y5_66 0) = (gA σ 579 x1 y4) →
            F o y5_66 0 (fun r_68 σ_69 => rZ r_68 → RK σ_69 →
            (r_68 = 0 →
              wp_Index_isSound_b223 cf tv o x1 x2 F Q (wp_Index_isSound_b224 cf tv o x1 x2 F Q (wp_Index_isSound_b269 cf tv o x1 x2 F Q K49)) y4 y3_64 σ_69) ∧
            (¬ r_68 = 0 →
              wp_Index_isSound_b224 cf tv o x1 x2 F Q (wp_Index_isSound_b269 cf tv o x1 x2 F Q K49) y4 1 y3_64 σ_69)) σ))))) ∧
  ((gI σ 576 x1) = 0 →
    ((0 : Int) ≤ y4 ∧ y4 < 9) ∧
    ∀ σ_70, σ_70 = sI σ 391 o (gA σ 578 x1 y4) →
    ((0 : Int) ≤ y4 ∧ y4 < 9) ∧
    ∀ σ_71, σ_71 = sI σ_70 392 o (gA σ_70 579 x1 y4) →
    wp_Index_isSound_b269 cf tv o x1 x2 F Q K49 y3_64 y4 σ_71)
def wp_Index_isSound_b40 (cf : Cf) (tv : Nat → Int) (o : Int) (x1 : Int) (x2 : Int) (F : Int → Int → Int → (Int → St → Prop) → St → Prop) (Q : Int → St → Prop) (K45 : Int → St → Prop) (σ : St) : Prop :=
  K45 1 σ
def wp_Index_isSound_L49 (cf : Cf) (tv : Nat → Int) (o : Int) (x1 : Int) (x2 : Int) (F : Int → Int → Int → (Int → St → Prop) → St → Prop) (Q : Int → St → Prop) (K49 : Int → Int → St → Prop) (y3 : Int) (y4 : Int) (σ : St) : Prop :=
  0 ≤ x1 ∧
  ((gI σ 577 x1) ≤ y4 →
    Q y3 σ) ∧
  (¬ (gI σ 577 x1) ≤ y4 →
    (y4 = 0 →
      wp_Index_isSound_b102 cf tv o x1 x2 F Q (wp_Index_isSound_b107 cf tv o x1 x2 F Q K49) y4 y3 σ) ∧
    (¬ y4 = 0 →
      ((0 : Int) ≤ w32 (y4 - 1) ∧ w32 (y4 - 1) < 9) ∧
      ((0 : Int) ≤ w32 (y4 - 1) ∧ w32 (y4 - 1) < 9) ∧
      ((0 : Int) ≤ y4 ∧ y4 < 9) ∧
      ((0 : Int) ≤ y4 ∧ y4 < 9) ∧
      wp_Knot_isBefore cf tv (gA σ 578 x1 (w32 (y4 - 1))) (gA σ 579 x1 (w32 (y4 - 1))) (gA σ 578 x1 y4) (gA σ 579 x1 y4) (fun r_73 σ_74 => rZ r_73 → RK σ_74 →
      (r_73 = 0 →
        wp_Index_isSound_b107 cf tv o x1 x2 F Q K49 y4 0 y3 σ_74) ∧
      (¬ r_73 = 0 →
        wp_Index_isSound_b102 cf tv o x1 x2 F Q (wp_Index_isSound_b107 cf tv o x1 x2 F Q K49) y4 y3 σ_74)) σ))
def wp_Index_isSound_b44 (cf : Cf) (tv : Nat → Int) (o : Int) (x1 : Int) (x2 : Int) (F : Int → Int → Int → (Int → St → Prop) → St → Prop) (Q : Int → St → Prop) (K45 : Int → St → Prop) (σ : St) : Prop :=
  K45 0 σ
def wp_Index_isSound_b45 (cf : Cf) (tv : Nat → Int) (o : Int) (x1 : Int) (x2 : Int) (F : Int → Int → Int → (Int → St → Prop) → St → Prop) (Q : Int → St → Prop) (t0 : Int) (σ : St) : Prop :=
  lQ2 (wp_Index_isSound_L49 cf tv o x1 x2 F Q) t0 0 σ
def wp_Index_isSound_b21 (cf : Cf) (tv : Nat → Int) (o : Int) (x1 : Int) (x2 : Int) (F : Int → Int → Int → (Int → St → Prop) → St → Prop) (Q : Int → St → Prop) (K44 : St → Prop) (K45 : Int → St → Prop) (σ : St) : Prop :=
  (x2 = 0 →
    wp_Index_isSound_b40 cf tv o x1 x2 F Q K45 σ) ∧
  (¬ x2 = 0 →
    0 ≤ x1 ∧
    ((gI σ 576 x1) = 0 →
      wp_Index_isSound_b40 cf tv o x1 x2 F Q K45 σ) ∧
    (¬ (gI σ 576 x1) = 0 →
      ((gI σ 577 x1) ≤ 1 →
        K44 σ) ∧
      (¬ (gI σ 577 x1) ≤ 1 →
        wp_Index_isSound_b40 cf tv o x1 x2 F Q K45 σ)))
def rm_Index_isSound (n : Nat) : Room := { frames := 3 + 1 * n, cells := 0, slots := 0, locals := 73 + 25 * n }
def wp_Index_isSound_R (cf : Cf) (tv : Nat → Int) (o : Int) (x1 : Int) (x2 : Int) (F : Int → Int → Int → (Int → St → Prop) → St → Prop) (Q : Int → St → Prop) (σ : St) : Prop :=
  0 ≤ x1 ∧
  (8 < (gI σ 577 x1) →
    wp_Index_isSound_b44 cf tv o x1 x2 F Q (wp_Index_isSound_b45 cf tv o x1 x2 F Q) σ) ∧
  (¬ 8 < (gI σ 577 x1) →
    (¬ x2 = 0 →
      wp_Index_isSound_b21 cf tv o x1 x2 F Q (wp_Index_isSound_b44 cf tv o x1 x2 F Q (wp_Index_isSound_b45 cf tv o x1 x2 F Q)) (wp_Index_isSound_b45 cf tv o x1 x2 F Q) σ) ∧
    (x2 = 0 →
      ((gI σ 577 x1) < 4 →
        wp_Index_isSound_b44 cf tv o x1 x2 F Q (wp_Index_isSound_b45 cf tv o x1 x2 F Q) σ) ∧
      (¬ (gI σ 577 x1) < 4 →
        wp_Index_isSound_b21 cf tv o x1 x2 F Q (wp_Index_isSound_b44 cf tv o x1 x2 F Q (wp_Index_isSound_b45 cf tv o x1 x2 F Q)) (wp_Index_isSound_b45 cf tv o x1 x2 F Q) σ)))
def wp_Index_isSound (cf : Cf) (tv : Nat → Int) : Nat → Int → Int → Int → (Int → St → Prop) → St → Prop
  | 0 => fun _ _ _ _ _ => False
  | n + 1 => fun o x1 x2 Q σ => wp_Index_isSound_R cf tv o x1 x2 (wp_Index_isSound cf tv n) Q σ
/-! Blocks.pages()I -/
abbrev rm_Blocks_pages : Room := { frames := 0, cells := 0, slots := 0, locals := 0 }
def wp_Blocks_pages (cf : Cf) (tv : Nat → Int) (o : Int) (Q : Int → St → Prop) (σ : St) : Prop :=
  Q (w32 (cf.2.1 - 2)) σ
/-! Blocks.format()V -/
def wp_Blocks_format_L54 (cf : Cf) (tv : Nat → Int) (o : Int) (Q : St → Prop) (K54 : Int → St → Prop) (y1 : Int) (σ : St) : Prop :=
  (cf.1 ≤ y1 →
    Q σ) ∧
  (¬ cf.1 ≤ y1 →
    wp_Blocks_erase cf tv o y1 (fun σ_22 => RK σ_22 →
    ∀ y1_23, y1_23 = w32 (y1 + 1) →
    K54 y1_23 σ_22) σ)
def wp_Blocks_format_L20 (cf : Cf) (tv : Nat → Int) (o : Int) (Q : St → Prop) (K20 : Int → St → Prop) (y1 : Int) (σ : St) : Prop :=
  (cf.1 ≤ y1 →
    lQ1 (wp_Blocks_format_L54 cf tv o Q) 0 σ) ∧
  (¬ cf.1 ≤ y1 →
    ((0 : Int) ≤ y1 ∧ y1 < cf.1) ∧
    ∀ σ_24, σ_24 = sA σ 260 o y1 0 →
    ((0 : Int) ≤ y1 ∧ y1 < cf.1) ∧
    ∀ σ_25, σ_25 = sA σ_24 259 o y1 (-2) →
    ∀ y1_26, y1_26 = w32 (y1 + 1) →
    K20 y1_26 σ_25)
abbrev rm_Blocks_format : Room := { frames := 4, cells := 0, slots := 0, locals := 148 }
def wp_Blocks_format (cf : Cf) (tv : Nat → Int) (o : Int) (Q : St → Prop) (σ : St) : Prop :=
  ∀ σ_27, σ_27 = sI σ 261 o 0 →
  ∀ σ_28, σ_28 = sI σ_27 265 o (-1) →
  wp_Arrays_fill_2 cf tv 258 o (-1) (fun σ_30 => RK σ_30 →
  lQ1 (wp_Blocks_format_L20 cf tv o Q) 0 σ_30) σ_28
/-! Blocks.drop(I)V -/
abbrev rm_Blocks_drop : Room := { frames := 2, cells := 0, slots := 0, locals := 41 }
def wp_Blocks_drop (cf : Cf) (tv : Nat → Int) (o : Int) (x1 : Int) (Q : St → Prop) (σ : St) : Prop :=
  wp_Blocks_stopMove cf tv o x1 (fun σ_6 => RK σ_6 →
  ((0 : Int) ≤ x1 ∧ x1 < (cf.1 - 6)) ∧
  (¬ (gA σ_6 258 o x1) = (-1) →
    ((0 : Int) ≤ x1 ∧ x1 < (cf.1 - 6)) ∧
    ((0 : Int) ≤ gA σ_6 258 o x1 ∧ gA σ_6 258 o x1 < cf.1) ∧
    ∀ σ_7, σ_7 = sA σ_6 259 o (gA σ_6 258 o x1) (-2) →
    ((0 : Int) ≤ x1 ∧ x1 < (cf.1 - 6)) ∧
    ∀ σ_8, σ_8 = sA σ_7 258 o x1 (-1) →
    Q σ_8) ∧
  ((gA σ_6 258 o x1) = (-1) →
    Q σ_6)) σ
/-! Blocks.written(I)I -/
abbrev rm_Blocks_written : Room := { frames := 1, cells := 0, slots := 0, locals := 80 }
def wp_Blocks_written (cf : Cf) (tv : Nat → Int) (o : Int) (x1 : Int) (Q : Int → St → Prop) (σ : St) : Prop :=
  ((0 : Int) ≤ x1 ∧ x1 < (cf.1 - 6)) ∧
  (¬ (gA σ 258 o x1) = (-1) →
    ((0 : Int) ≤ x1 ∧ x1 < (cf.1 - 6)) ∧
    wp_Flash_written cf tv (gA σ 258 o x1) (fun r_3 σ_4 => rI r_3 → RK σ_4 →
    Q (max 0 (w32 (r_3 - 2))) σ_4) σ) ∧
  ((gA σ 258 o x1) = (-1) →
    Q 0 σ)
/-! Blocks.read(II[BI)V -/
abbrev rm_Blocks_read : Room := { frames := 2, cells := 0, slots := 0, locals := 107 }
def wp_Blocks_read (cf : Cf) (tv : Nat → Int) (o : Int) (x1 : Int) (x2 : Int) (x3f : Nat) (x3o : Int) (x4 : Int) (Q : St → Prop) (σ : St) : Prop :=
  wp_Blocks_written cf tv o x1 (fun r_7 σ_8 => rI r_7 → RK σ_8 →
  (r_7 ≤ x2 →
    wp_Arrays_fill_3 cf tv x3f x3o x4 (w32 (x4 + 128)) (-1) (fun σ_10 => RK σ_10 →
    Q σ_10) σ_8) ∧
  (¬ r_7 ≤ x2 →
    ((0 : Int) ≤ x1 ∧ x1 < (cf.1 - 6)) ∧
    wp_Flash_read cf tv (gA σ_8 258 o x1) (w32 (2 + x2)) x3f x3o x4 (fun σ_12 => RK σ_12 →
    Q σ_12) σ_8)) σ
/-! Blocks.rule(I)V -/
def wp_Blocks_rule_L2 (cf : Cf) (tv : Nat → Int) (o : Int) (x1 : Int) (Q : St → Prop) (K2 : Int → St → Prop) (y2 : Int) (σ : St) : Prop :=
  (128 ≤ y2 →
    Q σ) ∧
  (¬ 128 ≤ y2 →
    ((0 : Int) ≤ y2 ∧ y2 < 128) ∧
    ∀ σ_5, σ_5 = sA σ 263 o y2 (b8 (w32 (x1 + (w32 (3 * y2))))) →
    ∀ y2_6, y2_6 = w32 (y2 + 1) →
    K2 y2_6 σ_5)
abbrev rm_Blocks_rule : Room := { frames := 0, cells := 0, slots := 0, locals := 0 }
def wp_Blocks_rule (cf : Cf) (tv : Nat → Int) (o : Int) (x1 : Int) (Q : St → Prop) (σ : St) : Prop :=
  lQ1 (wp_Blocks_rule_L2 cf tv o x1 Q) 0 σ
/-! Blocks.writeRule(II)I -/
abbrev rm_Blocks_writeRule : Room := { frames := 8, cells := 0, slots := 0, locals := 241 }
def wp_Blocks_writeRule (cf : Cf) (tv : Nat → Int) (o : Int) (x1 : Int) (x2 : Int) (Q : Int → St → Prop) (σ : St) : Prop :=
  wp_Blocks_written cf tv o x1 (fun r_8 σ_9 => rI r_8 → RK σ_9 →
  wp_Blocks_rule cf tv o x2 (fun σ_11 => RK σ_11 →
  (((0 : Int) ≤ (0 : Int) ∧ (0 : Int) ≤ (0 : Int) ∧ (0 : Int) ≤ (128 : Int)) ∧ (0 : Int) + 128 ≤ 128 ∧ (0 : Int) + 128 ≤ 128) ∧
  ∀ σ_12, σ_12 = sAr σ_11 264 o (cpy (gA σ_11 263 o) (gA σ_11 264 o) 0 0 128) →
  wp_Blocks_write cf tv o x1 r_8 264 o 0 (fun σ_14 => RK σ_14 →
  Q r_8 σ_14) σ_12) σ_9) σ
/-! Blocks.change(III)V -/
def wp_Blocks_change_b179 (cf : Cf) (tv : Nat → Int) (o : Int) (x1 : Int) (x2 : Int) (x3 : Int) (Q : St → Prop) (K59 : Int → Int → Int → St → Prop) (y4 : Int) (y5 : Int) (y6 : Int) (σ : St) : Prop :=
  K59 y4 y5 y6 σ
def wp_Blocks_change_b149 (cf : Cf) (tv : Nat → Int) (o : Int) (x1 : Int) (x2 : Int) (x3 : Int) (Q : St → Prop) (K59 : Int → Int → Int → St → Prop) (y4 : Int) (y5 : Int) (y6 : Int) (y7 : Int) (σ : St) : Prop :=
  (y6 = 0 →
    wp_Blocks_lose cf tv o y7 (fun σ_68 => RK σ_68 →
    wp_Blocks_change_b179 cf tv o x1 x2 x3 Q K59 y4 y5 y6 σ_68) σ) ∧
  (¬ y6 = 0 →
    ((0 : Int) ≤ y7 ∧ y7 < cf.1) ∧
    ∀ σ_69, σ_69 = sA σ 259 o y7 x1 →
    ((0 : Int) ≤ x1 ∧ x1 < (cf.1 - 6)) ∧
    ∀ σ_70, σ_70 = sA σ_69 258 o x1 y7 →
    wp_Blocks_change_b179 cf tv o x1 x2 x3 Q K59 y4 y5 y6 σ_70)
def wp_Blocks_change_L102 (cf : Cf) (tv : Nat → Int) (o : Int) (x1 : Int) (x2 : Int) (x3 : Int) (Q : St → Prop) (K59 : Int → Int → Int → St → Prop) (K102 : Int → Int → Int → Int → Int → St → Prop) (y4 : Int) (y5 : Int) (y6 : Int) (y7 : Int) (y8 : Int) (σ : St) : Prop :=
  (x2 ≤ y8 →
    wp_Blocks_change_b149 cf tv o x1 x2 x3 Q K59 y4 y5 y6 y7 σ) ∧
  (¬ x2 ≤ y8 →
    (y6 = 0 →
      wp_Blocks_change_b149 cf tv o x1 x2 x3 Q K59 y4 y5 y6 y7 σ) ∧
    (¬ y6 = 0 →
      wp_Blocks_rule cf tv o (w32 (x3 + (w32 (5 * y8)))) (fun σ_72 => RK σ_72 →
      wp_Flash_write cf tv y7 (w32 (2 + y8)) 263 o 0 (fun r_73 σ_74 => rZ r_73 → RK σ_74 →
      ∀ y8_75, y8_75 = w32 (y8 + 1) →
      K102 y4 y5 r_73 y7 y8_75 σ_74) σ_72) σ))
def wp_Blocks_change_L59 (cf : Cf) (tv : Nat → Int) (o : Int) (x1 : Int) (x2 : Int) (x3 : Int) (Q : St → Prop) (K59 : Int → Int → Int → St → Prop) (y4 : Int) (y5 : Int) (y6 : Int) (σ : St) : Prop :=
  (¬ y6 = 0 →
    (y5 = (-1) →
      Q σ) ∧
    (¬ y5 = (-1) →
      ((0 : Int) ≤ y5 ∧ y5 < cf.1) ∧
      ∀ σ_76, σ_76 = sA σ 259 o y5 (-2) →
      Q σ_76)) ∧
  (y6 = 0 →
    wp_Blocks_fetch cf tv o (fun r_77 σ_78 => rI r_77 → RK σ_78 →
    (¬ r_77 = (-1) →
      wp_Blocks_writeHead cf tv o r_77 x1 1 x2 y4 (fun r_79 σ_80 => rZ r_79 → RK σ_80 →
      lQ5 (wp_Blocks_change_L102 cf tv o x1 x2 x3 Q K59) y4 y5 r_79 r_77 0 σ_80) σ_78) ∧
    (r_77 = (-1) →
      False)) σ)
def wp_Blocks_change_L11 (cf : Cf) (tv : Nat → Int) (o : Int) (x1 : Int) (x2 : Int) (x3 : Int) (Q : St → Prop) (K11 : Int → Int → St → Prop) (y4 : Int) (y5 : Int) (σ : St) : Prop :=
  (x2 ≤ y5 →
    ((0 : Int) ≤ x1 ∧ x1 < (cf.1 - 6)) ∧
    ∀ y5_81, y5_81 = gA σ 258 o x1 →
    lQ3 (wp_Blocks_change_L59 cf tv o x1 x2 x3 Q) y4 y5_81 0 σ) ∧
  (¬ x2 ≤ y5 →
    wp_Blocks_rule cf tv o (w32 (x3 + (w32 (5 * y5)))) (fun σ_83 => RK σ_83 →
    wp_House_check cf tv y4 263 o 0 128 (fun r_84 σ_85 => rI r_84 → RK σ_85 →
    ∀ y5_86, y5_86 = w32 (y5 + 1) →
    K11 r_84 y5_86 σ_85) σ_83) σ)
abbrev rm_Blocks_change : Room := { frames := 6, cells := 0, slots := 0, locals := 190 }
def wp_Blocks_change (cf : Cf) (tv : Nat → Int) (o : Int) (x1 : Int) (x2 : Int) (x3 : Int) (Q : St → Prop) (σ : St) : Prop :=
  wp_Blocks_stopMove cf tv o x1 (fun σ_88 => RK σ_88 →
  lQ2 (wp_Blocks_change_L11 cf tv o x1 x2 x3 Q) (-1) 0 σ_88) σ
/-! Blocks.readErased(I)I -/
abbrev rm_Blocks_readErased : Room := { frames := 2, cells := 0, slots := 0, locals := 107 }
def wp_Blocks_readErased (cf : Cf) (tv : Nat → Int) (o : Int) (x1 : Int) (Q : Int → St → Prop) (σ : St) : Prop :=
  wp_Flash_written cf tv x1 (fun r_13 σ_14 => rI r_13 → RK σ_14 →
  (1 ≤ r_13 →
    wp_Flash_read cf tv x1 0 262 o 0 (fun σ_16 => RK σ_16 →
    wp_House_getInt cf tv 262 o 0 (fun r_17 σ_18 => rI r_17 → RK σ_18 →
    (¬ r_17 = 1263288881 →
      Q (-1) σ_18) ∧
    (r_17 = 1263288881 →
      wp_House_getInt cf tv 262 o 8 (fun r_19 σ_20 => rI r_19 → RK σ_20 →
      wp_House_check cf tv (-1) 262 o 0 8 (fun r_21 σ_22 => rI r_21 → RK σ_22 →
      (¬ r_19 = r_21 →
        Q (-1) σ_22) ∧
      (r_19 = r_21 →
        wp_House_getInt cf tv 262 o 4 (fun r_23 σ_24 => rI r_23 → RK σ_24 →
        Q r_23 σ_24) σ_22)) σ_20) σ_18)) σ_16) σ_14) ∧
  (¬ 1 ≤ r_13 →
    Q (-1) σ_14)) σ
/-! Blocks.readHead(I)Z -/
abbrev rm_Blocks_readHead : Room := { frames := 2, cells := 0, slots := 0, locals := 107 }
def wp_Blocks_readHead (cf : Cf) (tv : Nat → Int) (o : Int) (x1 : Int) (Q : Int → St → Prop) (σ : St) : Prop :=
  wp_Flash_written cf tv x1 (fun r_28 σ_29 => rI r_28 → RK σ_29 →
  (2 ≤ r_28 →
    wp_Flash_read cf tv x1 1 262 o 0 (fun σ_31 => RK σ_31 →
    wp_House_getInt cf tv 262 o 4 (fun r_32 σ_33 => rI r_32 → RK σ_33 →
    ∀ σ_34, σ_34 = sI σ_33 269 o r_32 →
    wp_House_getLong cf tv 262 o 8 (fun r_35 σ_36 => rJ r_35 → RK σ_36 →
    ∀ σ_37, σ_37 = sI σ_36 270 o r_35 →
    wp_House_getInt cf tv 262 o 16 (fun r_38 σ_39 => rI r_38 → RK σ_39 →
    ∀ σ_40, σ_40 = sI σ_39 271 o (if r_38 = 1 then (1 : Int) else (0 : Int)) →
    wp_House_getInt cf tv 262 o 20 (fun r_41 σ_42 => rI r_41 → RK σ_42 →
    ∀ σ_43, σ_43 = sI σ_42 272 o r_41 →
    wp_House_getInt cf tv 262 o 24 (fun r_44 σ_45 => rI r_44 → RK σ_45 →
    ∀ σ_46, σ_46 = sI σ_45 273 o r_44 →
    wp_House_getInt cf tv 262 o 0 (fun r_47 σ_48 => rI r_47 → RK σ_48 →
    (¬ r_47 = 1263289138 →
      Q 0 σ_48) ∧
    (r_47 = 1263289138 →
      wp_House_getInt cf tv 262 o 28 (fun r_49 σ_50 => rI r_49 → RK σ_50 →
      wp_House_check cf tv (-1) 262 o 0 28 (fun r_51 σ_52 => rI r_51 → RK σ_52 →
      (¬ r_49 = r_51 →
        Q 0 σ_52) ∧
      (r_49 = r_51 →
        wp_House_isIn cf tv (gI σ_52 269 o) 0 (w32 ((cf.1 - 6) - 1)) (fun r_53 σ_54 => rZ r_53 → RK σ_54 →
        (r_53 = 0 →
          Q 0 σ_54) ∧
        (¬ r_53 = 0 →
          Q 1 σ_54)) σ_52)) σ_50) σ_48)) σ_46) σ_43) σ_40) σ_37) σ_34) σ_31) σ_29) ∧
  (¬ 2 ≤ r_28 →
    Q 0 σ_29)) σ
/-! Blocks.checkOf(II)I -/
def wp_Blocks_checkOf_L5 (cf : Cf) (tv : Nat → Int) (o : Int) (x1 : Int) (x2 : Int) (Q : Int → St → Prop) (K5 : Int → Int → St → Prop) (y3 : Int) (y4 : Int) (σ : St) : Prop :=
  (x2 ≤ y4 →
    Q y3 σ) ∧
  (¬ x2 ≤ y4 →
    wp_Flash_read cf tv x1 (w32 (2 + y4)) 263 o 0 (fun σ_12 => RK σ_12 →
    wp_House_check cf tv y3 263 o 0 128 (fun r_13 σ_14 => rI r_13 → RK σ_14 →
    ∀ y4_15, y4_15 = w32 (y4 + 1) →
    K5 r_13 y4_15 σ_14) σ_12) σ)
abbrev rm_Blocks_checkOf : Room := { frames := 2, cells := 0, slots := 0, locals := 107 }
def wp_Blocks_checkOf (cf : Cf) (tv : Nat → Int) (o : Int) (x1 : Int) (x2 : Int) (Q : Int → St → Prop) (σ : St) : Prop :=
  lQ2 (wp_Blocks_checkOf_L5 cf tv o x1 x2 Q) (-1) 0 σ
/-! Blocks.claim(I)V -/
def wp_Blocks_claim_b133 (cf : Cf) (tv : Nat → Int) (o : Int) (x1 : Int) (Q : St → Prop) (σ : St) : Prop :=
  ((0 : Int) ≤ x1 ∧ x1 < cf.1) ∧
  ∀ σ_17, σ_17 = sA σ 259 o x1 (-2) →
  Q σ_17
def wp_Blocks_claim_b157 (cf : Cf) (tv : Nat → Int) (o : Int) (x1 : Int) (Q : St → Prop) (y2 : Int) (σ : St) : Prop :=
  ((0 : Int) ≤ x1 ∧ x1 < cf.1) ∧
  ∀ σ_18, σ_18 = sA σ 259 o x1 y2 →
  ((0 : Int) ≤ y2 ∧ y2 < (cf.1 - 6)) ∧
  ∀ σ_19, σ_19 = sA σ_18 258 o y2 x1 →
  Q σ_19
def wp_Blocks_claim_b123 (cf : Cf) (tv : Nat → Int) (o : Int) (x1 : Int) (Q : St → Prop) (y2 : Int) (y5 : Int) (y6 : Int) (y7 : Int) (σ : St) : Prop :=
  (y5 = 0 →
    wp_Blocks_claim_b133 cf tv o x1 Q σ) ∧
  (¬ y5 = 0 →
    (¬ y7 = 0 →
      (y6 = (-1) →
        wp_Blocks_claim_b157 cf tv o x1 Q y2 σ) ∧
      (¬ y6 = (-1) →
        ((0 : Int) ≤ y6 ∧ y6 < cf.1) ∧
        ∀ σ_20, σ_20 = sA σ 259 o y6 (-2) →
        wp_Blocks_claim_b157 cf tv o x1 Q y2 σ_20)) ∧
    (y7 = 0 →
      wp_Blocks_claim_b133 cf tv o x1 Q σ))
def wp_Blocks_claim_b50 (cf : Cf) (tv : Nat → Int) (o : Int) (x1 : Int) (Q : St → Prop) (K55 : Int → Int → Int → St → Prop) (y2 : Int) (y3 : Int) (σ : St) : Prop :=
  K55 y2 y3 1 σ
def wp_Blocks_claim_b54 (cf : Cf) (tv : Nat → Int) (o : Int) (x1 : Int) (Q : St → Prop) (K55 : Int → Int → Int → St → Prop) (y2 : Int) (y3 : Int) (σ : St) : Prop :=
  K55 y2 y3 0 σ
def wp_Blocks_claim_b55 (cf : Cf) (tv : Nat → Int) (o : Int) (x1 : Int) (Q : St → Prop) (y2 : Int) (y3 : Int) (t0 : Int) (σ : St) : Prop :=
  ∀ σ_21, σ_21 = sI σ 261 o (max (gI σ 261 o) y3) →
  ((0 : Int) ≤ y2 ∧ y2 < (cf.1 - 6)) ∧
  ∀ y6_22, y6_22 = gA σ_21 258 o y2 →
  ∀ y7_23, y7_23 = (if y6_22 = (-1) then (1 : Int) else (0 : Int)) →
  (t0 = 0 →
    wp_Blocks_claim_b123 cf tv o x1 Q y2 t0 y6_22 y7_23 σ_21) ∧
  (¬ t0 = 0 →
    (¬ y7_23 = 0 →
      wp_Blocks_claim_b123 cf tv o x1 Q y2 t0 y6_22 y7_23 σ_21) ∧
    (y7_23 = 0 →
      wp_Blocks_readHead cf tv o y6_22 (fun r_24 σ_25 => rZ r_24 → RK σ_25 →
      ∀ y7_26, y7_26 = (if y3 ≤ (gI σ_25 270 o) then (0 : Int) else (1 : Int)) →
      wp_Blocks_claim_b123 cf tv o x1 Q y2 t0 y6_22 y7_26 σ_25) σ_21))
abbrev rm_Blocks_claim : Room := { frames := 3, cells := 0, slots := 0, locals := 131 }
def wp_Blocks_claim (cf : Cf) (tv : Nat → Int) (o : Int) (x1 : Int) (Q : St → Prop) (σ : St) : Prop :=
  ∀ y2_27, y2_27 = gI σ 269 o →
  ∀ y3_28, y3_28 = gI σ 270 o →
  ((gI σ 271 o) = 0 →
    wp_Blocks_claim_b50 cf tv o x1 Q (wp_Blocks_claim_b55 cf tv o x1 Q) y2_27 y3_28 σ) ∧
  (¬ (gI σ 271 o) = 0 →
    wp_Flash_written cf tv x1 (fun r_29 σ_30 => rI r_29 → RK σ_30 →
    ((w32 (r_29 - 2)) < (gI σ_30 272 o) →
      wp_Blocks_claim_b54 cf tv o x1 Q (wp_Blocks_claim_b55 cf tv o x1 Q) y2_27 y3_28 σ_30) ∧
    (¬ (w32 (r_29 - 2)) < (gI σ_30 272 o) →
      wp_Blocks_checkOf cf tv o x1 (gI σ_30 272 o) (fun r_31 σ_32 => rI r_31 → RK σ_32 →
      (¬ r_31 = (gI σ_32 273 o) →
        wp_Blocks_claim_b54 cf tv o x1 Q (wp_Blocks_claim_b55 cf tv o x1 Q) y2_27 y3_28 σ_32) ∧
      (r_31 = (gI σ_32 273 o) →
        wp_Blocks_claim_b50 cf tv o x1 Q (wp_Blocks_claim_b55 cf tv o x1 Q) y2_27 y3_28 σ_32)) σ_30)) σ)
/-! Blocks.attach()V -/
def wp_Blocks_attach_b251 (cf : Cf) (tv : Nat → Int) (o : Int) (Q : St → Prop) (K260 : Int → Int → Int → St → Prop) (y1 : Int) (y3 : Int) (y4 : Int) (σ : St) : Prop :=
  ((0 : Int) ≤ y4 ∧ y4 < cf.1) ∧
  ∀ σ_79, σ_79 = sA σ 259 o y4 (-2) →
  K260 y1 y3 y4 σ_79
def wp_Blocks_attach_b228 (cf : Cf) (tv : Nat → Int) (o : Int) (Q : St → Prop) (K260 : Int → Int → Int → St → Prop) (y1 : Int) (y3 : Int) (y4 : Int) (y5 : Int) (σ : St) : Prop :=
  (y5 = 0 →
    wp_Blocks_attach_b251 cf tv o Q K260 y1 y3 y4 σ) ∧
  (¬ y5 = 0 →
    wp_Blocks_readHead cf tv o y4 (fun r_80 σ_81 => rZ r_80 → RK σ_81 →
    (r_80 = 0 →
      wp_Blocks_attach_b251 cf tv o Q K260 y1 y3 y4 σ_81) ∧
    (¬ r_80 = 0 →
      wp_Blocks_claim cf tv o y4 (fun σ_83 => RK σ_83 →
      K260 y1 y3 y4 σ_83) σ_81)) σ)
def wp_Blocks_attach_b260 (cf : Cf) (tv : Nat → Int) (o : Int) (Q : St → Prop) (K120 : Int → Int → Int → St → Prop) (y1 : Int) (y3 : Int) (y4 : Int) (σ : St) : Prop :=
  ∀ y4_84, y4_84 = w32 (y4 + 1) →
  K120 y1 y3 y4_84 σ
def wp_Blocks_attach_b174 (cf : Cf) (tv : Nat → Int) (o : Int) (Q : St → Prop) (K175 : Int → Int → Int → Int → St → Prop) (y1 : Int) (y3 : Int) (y4 : Int) (y5 : Int) (t0 : Int) (t1 : Int) (σ : St) : Prop :=
  ((0 : Int) ≤ t1 ∧ t1 < cf.1) ∧
  ∀ σ_85, σ_85 = sA σ 260 o t1 t0 →
  K175 y1 y3 y4 y5 σ_85
def wp_Blocks_attach_b175 (cf : Cf) (tv : Nat → Int) (o : Int) (Q : St → Prop) (K120 : Int → Int → Int → St → Prop) (y1 : Int) (y3 : Int) (y4 : Int) (y5 : Int) (σ : St) : Prop :=
  wp_Flash_isBroken cf tv y4 (fun r_86 σ_87 => rZ r_86 → RK σ_87 →
  (r_86 = 0 →
    (y5 = 0 →
      wp_Blocks_attach_b228 cf tv o Q (wp_Blocks_attach_b260 cf tv o Q K120) y1 y3 y4 y5 σ_87) ∧
    (¬ y5 = 0 →
      wp_Flash_written cf tv y4 (fun r_88 σ_89 => rI r_88 → RK σ_89 →
      (¬ r_88 = 1 →
        wp_Blocks_attach_b228 cf tv o Q (wp_Blocks_attach_b260 cf tv o Q K120) y1 y3 y4 y5 σ_89) ∧
      (r_88 = 1 →
        ((0 : Int) ≤ y4 ∧ y4 < cf.1) ∧
        ∀ σ_90, σ_90 = sA σ_89 259 o y4 (-1) →
        wp_Blocks_attach_b260 cf tv o Q K120 y1 y3 y4 σ_90)) σ_87)) ∧
  (¬ r_86 = 0 →
    ((0 : Int) ≤ y4 ∧ y4 < cf.1) ∧
    ∀ σ_91, σ_91 = sA σ_87 259 o y4 (-3) →
    wp_Blocks_attach_b260 cf tv o Q K120 y1 y3 y4 σ_91)) σ
def wp_Blocks_attach_b90 (cf : Cf) (tv : Nat → Int) (o : Int) (Q : St → Prop) (K25 : Int → Int → Int → St → Prop) (y3 : Int) (y4 : Int) (t0 : Int) (t1 : Int) (σ : St) : Prop :=
  ∀ y1_92, y1_92 = w64 (t1 + t0) →
  ((0 : Int) ≤ y4 ∧ y4 < cf.1) ∧
  ∀ y3_93, y3_93 = w32 (y3 + (if (gA σ 260 o y4) = (-1) then (0 : Int) else (1 : Int))) →
  ∀ y4_94, y4_94 = w32 (y4 + 1) →
  K25 y1_92 y3_93 y4_94 σ
def wp_Blocks_attach_b65 (cf : Cf) (tv : Nat → Int) (o : Int) (Q : St → Prop) (K25 : Int → Int → Int → St → Prop) (y1 : Int) (y3 : Int) (y4 : Int) (t0 : Int) (t1 : Int) (σ : St) : Prop :=
  ((0 : Int) ≤ t1 ∧ t1 < cf.1) ∧
  ∀ σ_95, σ_95 = sA σ 260 o t1 t0 →
  ((0 : Int) ≤ y4 ∧ y4 < cf.1) ∧
  (¬ (gA σ_95 260 o y4) = (-1) →
    ((0 : Int) ≤ y4 ∧ y4 < cf.1) ∧
    wp_Blocks_attach_b90 cf tv o Q K25 y3 y4 (gA σ_95 260 o y4) y1 σ_95) ∧
  ((gA σ_95 260 o y4) = (-1) →
    wp_Blocks_attach_b90 cf tv o Q K25 y3 y4 0 y1 σ_95)
def wp_Blocks_attach_L120 (cf : Cf) (tv : Nat → Int) (o : Int) (Q : St → Prop) (K120 : Int → Int → Int → St → Prop) (y1 : Int) (y3 : Int) (y4 : Int) (σ : St) : Prop :=
  (cf.1 ≤ y4 →
    Q σ) ∧
  (¬ cf.1 ≤ y4 →
    ((0 : Int) ≤ y4 ∧ y4 < cf.1) ∧
    ∀ y5_96, y5_96 = (if (gA σ 260 o y4) = (-1) then (0 : Int) else (1 : Int)) →
    (¬ y5_96 = 0 →
      wp_Blocks_attach_b175 cf tv o Q K120 y1 y3 y4 y5_96 σ) ∧
    (y5_96 = 0 →
      (¬ y3 = 0 →
        ¬ y3 = 0 ∧
        wp_Blocks_attach_b174 cf tv o Q (wp_Blocks_attach_b175 cf tv o Q K120) y1 y3 y4 y5_96 (w32 (jdl y1 y3)) y4 σ) ∧
      (y3 = 0 →
        wp_Blocks_attach_b174 cf tv o Q (wp_Blocks_attach_b175 cf tv o Q K120) y1 y3 y4 y5_96 0 y4 σ)))
def wp_Blocks_attach_L25 (cf : Cf) (tv : Nat → Int) (o : Int) (Q : St → Prop) (K25 : Int → Int → Int → St → Prop) (y1 : Int) (y3 : Int) (y4 : Int) (σ : St) : Prop :=
  (cf.1 ≤ y4 →
    lQ3 (wp_Blocks_attach_L120 cf tv o Q) y1 y3 0 σ) ∧
  (¬ cf.1 ≤ y4 →
    wp_Flash_isBroken cf tv y4 (fun r_97 σ_98 => rZ r_97 → RK σ_98 →
    (r_97 = 0 →
      wp_Blocks_readErased cf tv o y4 (fun r_99 σ_100 => rI r_99 → RK σ_100 →
      wp_Blocks_attach_b65 cf tv o Q K25 y1 y3 y4 r_99 y4 σ_100) σ_98) ∧
    (¬ r_97 = 0 →
      wp_Blocks_attach_b65 cf tv o Q K25 y1 y3 y4 (-1) y4 σ_98)) σ)
abbrev rm_Blocks_attach : Room := { frames := 4, cells := 0, slots := 0, locals := 158 }
def wp_Blocks_attach (cf : Cf) (tv : Nat → Int) (o : Int) (Q : St → Prop) (σ : St) : Prop :=
  wp_Arrays_fill_2 cf tv 258 o (-1) (fun σ_102 => RK σ_102 →
  ∀ σ_103, σ_103 = sI σ_102 265 o (-1) →
  ∀ σ_104, σ_104 = sI σ_103 261 o 0 →
  lQ3 (wp_Blocks_attach_L25 cf tv o Q) 0 0 0 σ_104) σ
/-! Blocks.count(I)I -/
def wp_Blocks_count_L4 (cf : Cf) (tv : Nat → Int) (o : Int) (x1 : Int) (Q : Int → St → Prop) (K4 : Int → Int → St → Prop) (y2 : Int) (y3 : Int) (σ : St) : Prop :=
  (cf.1 ≤ y3 →
    Q y2 σ) ∧
  (¬ cf.1 ≤ y3 →
    ((0 : Int) ≤ y3 ∧ y3 < cf.1) ∧
    ∀ y2_5, y2_5 = w32 (y2 + (if (gA σ 259 o y3) = x1 then (1 : Int) else (0 : Int))) →
    ∀ y3_6, y3_6 = w32 (y3 + 1) →
    K4 y2_5 y3_6 σ)
abbrev rm_Blocks_count : Room := { frames := 0, cells := 0, slots := 0, locals := 0 }
def wp_Blocks_count (cf : Cf) (tv : Nat → Int) (o : Int) (x1 : Int) (Q : Int → St → Prop) (σ : St) : Prop :=
  lQ2 (wp_Blocks_count_L4 cf tv o x1 Q) 0 0 σ
/-! Blocks.toMove()I -/
def wp_Blocks_toMove_b73 (cf : Cf) (tv : Nat → Int) (o : Int) (Q : Int → St → Prop) (K75 : Int → Int → St → Prop) (y2 : Int) (σ : St) : Prop :=
  K75 y2 y2 σ
def wp_Blocks_toMove_b75 (cf : Cf) (tv : Nat → Int) (o : Int) (Q : Int → St → Prop) (K4 : Int → Int → St → Prop) (y1 : Int) (y2 : Int) (σ : St) : Prop :=
  ∀ y2_16, y2_16 = w32 (y2 + 1) →
  K4 y1 y2_16 σ
def wp_Blocks_toMove_L4 (cf : Cf) (tv : Nat → Int) (o : Int) (Q : Int → St → Prop) (K4 : Int → Int → St → Prop) (y1 : Int) (y2 : Int) (σ : St) : Prop :=
  ((cf.1 - 6) ≤ y2 →
    wp_Blocks_freeOne cf tv o 1 (fun r_17 σ_18 => rI r_17 → RK σ_18 →
    (y1 = (-1) →
      Q (-1) σ_18) ∧
    (¬ y1 = (-1) →
      (r_17 = (-1) →
        Q (-1) σ_18) ∧
      (¬ r_17 = (-1) →
        ((0 : Int) ≤ r_17 ∧ r_17 < cf.1) ∧
        ((0 : Int) ≤ y1 ∧ y1 < (cf.1 - 6)) ∧
        ((0 : Int) ≤ gA σ_18 258 o y1 ∧ gA σ_18 258 o y1 < cf.1) ∧
        ((w32 ((gA σ_18 260 o r_17) - (gA σ_18 260 o (gA σ_18 258 o y1)))) < 4 →
          Q (-1) σ_18) ∧
        (¬ (w32 ((gA σ_18 260 o r_17) - (gA σ_18 260 o (gA σ_18 258 o y1)))) < 4 →
          Q y1 σ_18)))) σ) ∧
  (¬ (cf.1 - 6) ≤ y2 →
    ((0 : Int) ≤ y2 ∧ y2 < (cf.1 - 6)) ∧
    (¬ (gA σ 258 o y2) = (-1) →
      ((0 : Int) ≤ y2 ∧ y2 < (cf.1 - 6)) ∧
      wp_Flash_isWeak cf tv (gA σ 258 o y2) (fun r_19 σ_20 => rZ r_19 → RK σ_20 →
      (r_19 = 0 →
        (y1 = (-1) →
          wp_Blocks_toMove_b73 cf tv o Q (wp_Blocks_toMove_b75 cf tv o Q K4) y2 σ_20) ∧
        (¬ y1 = (-1) →
          ((0 : Int) ≤ y2 ∧ y2 < (cf.1 - 6)) ∧
          ((0 : Int) ≤ gA σ_20 258 o y2 ∧ gA σ_20 258 o y2 < cf.1) ∧
          ((0 : Int) ≤ y1 ∧ y1 < (cf.1 - 6)) ∧
          ((0 : Int) ≤ gA σ_20 258 o y1 ∧ gA σ_20 258 o y1 < cf.1) ∧
          ((gA σ_20 260 o (gA σ_20 258 o y1)) ≤ (gA σ_20 260 o (gA σ_20 258 o y2)) →
            wp_Blocks_toMove_b75 cf tv o Q K4 y1 y2 σ_20) ∧
          (¬ (gA σ_20 260 o (gA σ_20 258 o y1)) ≤ (gA σ_20 260 o (gA σ_20 258 o y2)) →
            wp_Blocks_toMove_b73 cf tv o Q (wp_Blocks_toMove_b75 cf tv o Q K4) y2 σ_20))) ∧
      (¬ r_19 = 0 →
        Q y2 σ_20)) σ) ∧
    ((gA σ 258 o y2) = (-1) →
      wp_Blocks_toMove_b75 cf tv o Q K4 y1 y2 σ))
abbrev rm_Blocks_toMove : Room := { frames := 1, cells := 0, slots := 0, locals := 23 }
def wp_Blocks_toMove (cf : Cf) (tv : Nat → Int) (o : Int) (Q : Int → St → Prop) (σ : St) : Prop :=
  lQ2 (wp_Blocks_toMove_L4 cf tv o Q) (-1) 0 σ
/-! Blocks.failMove()V -/
abbrev rm_Blocks_failMove : Room := { frames := 2, cells := 0, slots := 0, locals := 42 }
def wp_Blocks_failMove (cf : Cf) (tv : Nat → Int) (o : Int) (Q : St → Prop) (σ : St) : Prop :=
  wp_Blocks_lose cf tv o (gI σ 266 o) (fun σ_5 => RK σ_5 →
  ∀ σ_6, σ_6 = sI σ_5 265 o (-1) →
  Q σ_6) σ
/-! Blocks.beginMove()Z -/
abbrev rm_Blocks_beginMove : Room := { frames := 3, cells := 0, slots := 0, locals := 131 }
def wp_Blocks_beginMove (cf : Cf) (tv : Nat → Int) (o : Int) (Q : Int → St → Prop) (σ : St) : Prop :=
  wp_Blocks_count cf tv o (-1) (fun r_23 σ_24 => rI r_23 → RK σ_24 →
  (2 ≤ r_23 →
    wp_Blocks_toMove cf tv o (fun r_25 σ_26 => rI r_25 → RK σ_26 →
    (¬ r_25 = (-1) →
      ((0 : Int) ≤ r_25 ∧ r_25 < (cf.1 - 6)) ∧
      ∀ y2_27, y2_27 = gA σ_26 258 o r_25 →
      wp_Flash_isWeak cf tv y2_27 (fun r_28 σ_29 => rZ r_28 → RK σ_29 →
      wp_Blocks_freeOne cf tv o (if r_28 = 0 then (1 : Int) else (0 : Int)) (fun r_30 σ_31 => rI r_30 → RK σ_31 →
      ∀ σ_32, σ_32 = sI σ_31 266 o r_30 →
      wp_Blocks_written cf tv o r_25 (fun r_33 σ_34 => rI r_33 → RK σ_34 →
      ∀ σ_35, σ_35 = sI σ_34 268 o r_33 →
      ∀ σ_36, σ_36 = sI σ_35 267 o 0 →
      ∀ σ_37, σ_37 = sI σ_36 265 o r_25 →
      ((0 : Int) ≤ gI σ_37 266 o ∧ gI σ_37 266 o < cf.1) ∧
      ∀ σ_38, σ_38 = sA σ_37 259 o (gI σ_37 266 o) (-3) →
      wp_Blocks_checkOf cf tv o y2_27 (gI σ_38 268 o) (fun r_39 σ_40 => rI r_39 → RK σ_40 →
      wp_Blocks_writeHead cf tv o (gI σ_38 266 o) r_25 1 (gI σ_38 268 o) r_39 (fun r_41 σ_42 => rZ r_41 → RK σ_42 →
      (¬ r_41 = 0 →
        Q 1 σ_42) ∧
      (r_41 = 0 →
        wp_Blocks_failMove cf tv o (fun σ_44 => RK σ_44 →
        Q 1 σ_44) σ_42)) σ_40) σ_38) σ_32) σ_29) σ_26) ∧
    (r_25 = (-1) →
      Q 0 σ_26)) σ_24) ∧
  (¬ 2 ≤ r_23 →
    Q 0 σ_24)) σ
/-! Blocks.moveStep()Z -/
abbrev rm_Blocks_moveStep : Room := { frames := 4, cells := 0, slots := 0, locals := 153 }
def wp_Blocks_moveStep (cf : Cf) (tv : Nat → Int) (o : Int) (Q : Int → St → Prop) (σ : St) : Prop :=
  (¬ (gI σ 265 o) = (-1) →
    ((0 : Int) ≤ gI σ 265 o ∧ gI σ 265 o < (cf.1 - 6)) ∧
    ∀ y1_13, y1_13 = gA σ 258 o (gI σ 265 o) →
    ((gI σ 268 o) ≤ (gI σ 267 o) →
      wp_Blocks_endMove cf tv o (fun σ_15 => RK σ_15 →
      Q 1 σ_15) σ) ∧
    (¬ (gI σ 268 o) ≤ (gI σ 267 o) →
      wp_Flash_read cf tv y1_13 (w32 (2 + (gI σ 267 o))) 263 o 0 (fun σ_17 => RK σ_17 →
      wp_Flash_write cf tv (gI σ_17 266 o) (w32 (2 + (gI σ_17 267 o))) 263 o 0 (fun r_18 σ_19 => rZ r_18 → RK σ_19 →
      (r_18 = 0 →
        wp_Blocks_failMove cf tv o (fun σ_21 => RK σ_21 →
        Q 1 σ_21) σ_19) ∧
      (¬ r_18 = 0 →
        ∀ σ_22, σ_22 = sI σ_19 267 o (w32 ((gI σ_19 267 o) + 1)) →
        Q 1 σ_22)) σ_17) σ)) ∧
  ((gI σ 265 o) = (-1) →
    wp_Blocks_beginMove cf tv o (fun r_23 σ_24 => rZ r_23 → RK σ_24 →
    Q r_23 σ_24) σ)
/-! Blocks.isSound()Z -/
def wp_Blocks_isSound_b165 (cf : Cf) (tv : Nat → Int) (o : Int) (Q : Int → St → Prop) (K170 : Int → Int → Int → St → Prop) (y2 : Int) (t0 : Int) (σ : St) : Prop :=
  K170 y2 1 t0 σ
def wp_Blocks_isSound_b136 (cf : Cf) (tv : Nat → Int) (o : Int) (Q : Int → St → Prop) (K137 : Int → Int → Int → St → Prop) (y2 : Int) (t0 : Int) (σ : St) : Prop :=
  K137 y2 0 t0 σ
def wp_Blocks_isSound_b137 (cf : Cf) (tv : Nat → Int) (o : Int) (Q : Int → St → Prop) (K172 : Int → Int → St → Prop) (y2 : Int) (t0 : Int) (t1 : Int) (σ : St) : Prop :=
  ∀ y1_52, y1_52 = iand t1 t0 →
  K172 y1_52 y2 σ
def wp_Blocks_isSound_b170 (cf : Cf) (tv : Nat → Int) (o : Int) (Q : Int → St → Prop) (K172 : Int → Int → St → Prop) (y2 : Int) (t0 : Int) (t1 : Int) (σ : St) : Prop :=
  ∀ y1_53, y1_53 = iand t1 t0 →
  K172 y1_53 y2 σ
def wp_Blocks_isSound_b172 (cf : Cf) (tv : Nat → Int) (o : Int) (Q : Int → St → Prop) (K4 : Int → Int → St → Prop) (y1 : Int) (y2 : Int) (σ : St) : Prop :=
  ∀ y2_54, y2_54 = w32 (y2 + 1) →
  K4 y1 y2_54 σ
def wp_Blocks_isSound_b214 (cf : Cf) (tv : Nat → Int) (o : Int) (Q : Int → St → Prop) (K219 : Int → Int → Int → St → Prop) (y2 : Int) (t0 : Int) (σ : St) : Prop :=
  K219 y2 1 t0 σ
def wp_Blocks_isSound_b219 (cf : Cf) (tv : Nat → Int) (o : Int) (Q : Int → St → Prop) (K180 : Int → Int → St → Prop) (y2 : Int) (t0 : Int) (t1 : Int) (σ : St) : Prop :=
  ∀ y1_55, y1_55 = iand t1 t0 →
  ∀ y2_56, y2_56 = w32 (y2 + 1) →
  K180 y1_55 y2_56 σ
def wp_Blocks_isSound_b94 (cf : Cf) (tv : Nat → Int) (o : Int) (Q : Int → St → Prop) (K95 : Int → Int → Int → St → Prop) (y2 : Int) (t0 : Int) (σ : St) : Prop :=
  K95 y2 0 t0 σ
def wp_Blocks_isSound_b95 (cf : Cf) (tv : Nat → Int) (o : Int) (Q : Int → St → Prop) (K172 : Int → Int → St → Prop) (y2 : Int) (t0 : Int) (t1 : Int) (σ : St) : Prop :=
  ∀ y1_57, y1_57 = iand t1 t0 →
  K172 y1_57 y2 σ
def wp_Blocks_isSound_b42 (cf : Cf) (tv : Nat → Int) (o : Int) (Q : Int → St → Prop) (K43 : Int → Int → Int → Int → St → Prop) (y1 : Int) (y2 : Int) (y3 : Int) (σ : St) : Prop :=
  K43 y1 y2 y3 0 σ
def wp_Blocks_isSound_b43 (cf : Cf) (tv : Nat → Int) (o : Int) (Q : Int → St → Prop) (K4 : Int → Int → St → Prop) (y1 : Int) (y2 : Int) (y3 : Int) (t0 : Int) (σ : St) : Prop :=
  (y3 < 0 →
    (¬ y3 = (-1) →
      (¬ y3 = (-3) →
        wp_Blocks_isSound_b172 cf tv o Q K4 y1 y2 σ) ∧
      (y3 = (-3) →
        (¬ t0 = 0 →
          wp_Blocks_isSound_b165 cf tv o Q (wp_Blocks_isSound_b170 cf tv o Q (wp_Blocks_isSound_b172 cf tv o Q K4)) y2 y1 σ) ∧
        (t0 = 0 →
          wp_Flash_isBroken cf tv y2 (fun r_58 σ_59 => rZ r_58 → RK σ_59 →
          (r_58 = 0 →
            wp_Blocks_isSound_b170 cf tv o Q (wp_Blocks_isSound_b172 cf tv o Q K4) y2 0 y1 σ_59) ∧
          (¬ r_58 = 0 →
            wp_Blocks_isSound_b165 cf tv o Q (wp_Blocks_isSound_b170 cf tv o Q (wp_Blocks_isSound_b172 cf tv o Q K4)) y2 y1 σ_59)) σ))) ∧
    (y3 = (-1) →
      wp_Flash_written cf tv y2 (fun r_60 σ_61 => rI r_60 → RK σ_61 →
      (¬ r_60 = 1 →
        wp_Blocks_isSound_b136 cf tv o Q (wp_Blocks_isSound_b137 cf tv o Q (wp_Blocks_isSound_b172 cf tv o Q K4)) y2 y1 σ_61) ∧
      (r_60 = 1 →
        wp_Blocks_readErased cf tv o y2 (fun r_62 σ_63 => rI r_62 → RK σ_63 →
        ((0 : Int) ≤ y2 ∧ y2 < cf.1) ∧
        (¬ r_62 = (gA σ_63 260 o y2) →
          wp_Blocks_isSound_b136 cf tv o Q (wp_Blocks_isSound_b137 cf tv o Q (wp_Blocks_isSound_b172 cf tv o Q K4)) y2 y1 σ_63) ∧
        (r_62 = (gA σ_63 260 o y2) →
          wp_Blocks_isSound_b137 cf tv o Q (wp_Blocks_isSound_b172 cf tv o Q K4) y2 1 y1 σ_63)) σ_61)) σ)) ∧
  (¬ y3 < 0 →
    ((0 : Int) ≤ y3 ∧ y3 < (cf.1 - 6)) ∧
    (¬ (gA σ 258 o y3) = y2 →
      wp_Blocks_isSound_b94 cf tv o Q (wp_Blocks_isSound_b95 cf tv o Q (wp_Blocks_isSound_b172 cf tv o Q K4)) y2 y1 σ) ∧
    ((gA σ 258 o y3) = y2 →
      wp_Blocks_readHead cf tv o y2 (fun r_64 σ_65 => rZ r_64 → RK σ_65 →
      (r_64 = 0 →
        wp_Blocks_isSound_b94 cf tv o Q (wp_Blocks_isSound_b95 cf tv o Q (wp_Blocks_isSound_b172 cf tv o Q K4)) y2 y1 σ_65) ∧
      (¬ r_64 = 0 →
        (¬ (gI σ_65 269 o) = y3 →
          wp_Blocks_isSound_b94 cf tv o Q (wp_Blocks_isSound_b95 cf tv o Q (wp_Blocks_isSound_b172 cf tv o Q K4)) y2 y1 σ_65) ∧
        ((gI σ_65 269 o) = y3 →
          wp_Blocks_readErased cf tv o y2 (fun r_66 σ_67 => rI r_66 → RK σ_67 →
          ((0 : Int) ≤ y2 ∧ y2 < cf.1) ∧
          (¬ r_66 = (gA σ_67 260 o y2) →
            wp_Blocks_isSound_b94 cf tv o Q (wp_Blocks_isSound_b95 cf tv o Q (wp_Blocks_isSound_b172 cf tv o Q K4)) y2 y1 σ_67) ∧
          (r_66 = (gA σ_67 260 o y2) →
            wp_Blocks_isSound_b95 cf tv o Q (wp_Blocks_isSound_b172 cf tv o Q K4) y2 1 y1 σ_67)) σ_65))) σ))
def wp_Blocks_isSound_L180 (cf : Cf) (tv : Nat → Int) (o : Int) (Q : Int → St → Prop) (K180 : Int → Int → St → Prop) (y1 : Int) (y2 : Int) (σ : St) : Prop :=
  ((cf.1 - 6) ≤ y2 →
    Q y1 σ) ∧
  (¬ (cf.1 - 6) ≤ y2 →
    ((0 : Int) ≤ y2 ∧ y2 < (cf.1 - 6)) ∧
    ((gA σ 258 o y2) = (-1) →
      wp_Blocks_isSound_b214 cf tv o Q (wp_Blocks_isSound_b219 cf tv o Q K180) y2 y1 σ) ∧
    (¬ (gA σ 258 o y2) = (-1) →
      ((0 : Int) ≤ y2 ∧ y2 < (cf.1 - 6)) ∧
      ((0 : Int) ≤ gA σ 258 o y2 ∧ gA σ 258 o y2 < cf.1) ∧
      (¬ (gA σ 259 o (gA σ 258 o y2)) = y2 →
        wp_Blocks_isSound_b219 cf tv o Q K180 y2 0 y1 σ) ∧
      ((gA σ 259 o (gA σ 258 o y2)) = y2 →
        wp_Blocks_isSound_b214 cf tv o Q (wp_Blocks_isSound_b219 cf tv o Q K180) y2 y1 σ)))
def wp_Blocks_isSound_L4 (cf : Cf) (tv : Nat → Int) (o : Int) (Q : Int → St → Prop) (K4 : Int → Int → St → Prop) (y1 : Int) (y2 : Int) (σ : St) : Prop :=
  (cf.1 ≤ y2 →
    lQ2 (wp_Blocks_isSound_L180 cf tv o Q) y1 0 σ) ∧
  (¬ cf.1 ≤ y2 →
    ((0 : Int) ≤ y2 ∧ y2 < cf.1) ∧
    ∀ y3_68, y3_68 = gA σ 259 o y2 →
    ((gI σ 265 o) = (-1) →
      wp_Blocks_isSound_b42 cf tv o Q (wp_Blocks_isSound_b43 cf tv o Q K4) y1 y2 y3_68 σ) ∧
    (¬ (gI σ 265 o) = (-1) →
      (¬ y2 = (gI σ 266 o) →
        wp_Blocks_isSound_b42 cf tv o Q (wp_Blocks_isSound_b43 cf tv o Q K4) y1 y2 y3_68 σ) ∧
      (y2 = (gI σ 266 o) →
        wp_Blocks_isSound_b43 cf tv o Q K4 y1 y2 y3_68 1 σ)))
abbrev rm_Blocks_isSound : Room := { frames := 3, cells := 0, slots := 0, locals := 128 }
def wp_Blocks_isSound (cf : Cf) (tv : Nat → Int) (o : Int) (Q : Int → St → Prop) (σ : St) : Prop :=
  lQ2 (wp_Blocks_isSound_L4 cf tv o Q) 1 0 σ
/-! Space.clear()V -/
abbrev rm_Space_clear : Room := { frames := 1, cells := 0, slots := 0, locals := 23 }
def wp_Space_clear (cf : Cf) (tv : Nat → Int) (o : Int) (Q : St → Prop) (σ : St) : Prop :=
  wp_Arrays_fill_2 cf tv 323 o 0 (fun σ_8 => RK σ_8 →
  wp_Arrays_fill_2 cf tv 324 o 0 (fun σ_10 => RK σ_10 →
  wp_Arrays_fill_6 cf tv 325 o 0 (fun σ_12 => RK σ_12 →
  Q σ_12) σ_10) σ_8) σ
/-! Space.fetch()I -/
def wp_Space_fetch_L5 (cf : Cf) (tv : Nat → Int) (o : Int) (Q : Int → St → Prop) (K5 : Int → St → Prop) (y1 : Int) (σ : St) : Prop :=
  ((cf.1 - 6) ≤ y1 →
    False) ∧
  (¬ (cf.1 - 6) ≤ y1 →
    ((0 : Int) ≤ y1 ∧ y1 < (cf.1 - 6)) ∧
    (¬ (gA σ 323 o y1) = 0 →
      ∀ y1_8, y1_8 = w32 (y1 + 1) →
      K5 y1_8 σ) ∧
    ((gA σ 323 o y1) = 0 →
      wp_Blocks_drop cf tv o y1 (fun σ_10 => RK σ_10 →
      ((0 : Int) ≤ y1 ∧ y1 < (cf.1 - 6)) ∧
      ∀ σ_11, σ_11 = sA σ_10 323 o y1 2 →
      ((0 : Int) ≤ y1 ∧ y1 < (cf.1 - 6)) ∧
      ∀ σ_12, σ_12 = sA σ_11 324 o y1 0 →
      ((0 : Int) ≤ y1 ∧ y1 < (cf.1 - 6)) ∧
      ∀ σ_13, σ_13 = sA σ_12 325 o y1 0 →
      Q y1 σ_13) σ))
abbrev rm_Space_fetch : Room := { frames := 3, cells := 0, slots := 0, locals := 62 }
def wp_Space_fetch (cf : Cf) (tv : Nat → Int) (o : Int) (Q : Int → St → Prop) (σ : St) : Prop :=
  ∀ y1_14, y1_14 = (4 + cf.2.2) →
  lQ1 (wp_Space_fetch_L5 cf tv o Q) y1_14 σ
/-! Space.sweep()V -/
def wp_Space_sweep_b48 (cf : Cf) (tv : Nat → Int) (o : Int) (Q : St → Prop) (K5 : Int → St → Prop) (y1 : Int) (σ : St) : Prop :=
  ∀ y1_6, y1_6 = w32 (y1 + 1) →
  K5 y1_6 σ
def wp_Space_sweep_L5 (cf : Cf) (tv : Nat → Int) (o : Int) (Q : St → Prop) (K5 : Int → St → Prop) (y1 : Int) (σ : St) : Prop :=
  ((cf.1 - 6) ≤ y1 →
    Q σ) ∧
  (¬ (cf.1 - 6) ≤ y1 →
    ((0 : Int) ≤ y1 ∧ y1 < (cf.1 - 6)) ∧
    (¬ (gA σ 323 o y1) = 1 →
      wp_Space_sweep_b48 cf tv o Q K5 y1 σ) ∧
    ((gA σ 323 o y1) = 1 →
      ((0 : Int) ≤ y1 ∧ y1 < (cf.1 - 6)) ∧
      (¬ (gA σ 324 o y1) = 0 →
        wp_Space_sweep_b48 cf tv o Q K5 y1 σ) ∧
      ((gA σ 324 o y1) = 0 →
        wp_Blocks_drop cf tv o y1 (fun σ_8 => RK σ_8 →
        ((0 : Int) ≤ y1 ∧ y1 < (cf.1 - 6)) ∧
        ∀ σ_9, σ_9 = sA σ_8 323 o y1 0 →
        wp_Space_sweep_b48 cf tv o Q K5 y1 σ_9) σ)))
abbrev rm_Space_sweep : Room := { frames := 3, cells := 0, slots := 0, locals := 62 }
def wp_Space_sweep (cf : Cf) (tv : Nat → Int) (o : Int) (Q : St → Prop) (σ : St) : Prop :=
  ∀ y1_10, y1_10 = (4 + cf.2.2) →
  lQ1 (wp_Space_sweep_L5 cf tv o Q) y1_10 σ
/-! Space.empty()I -/
def wp_Space_empty_L7 (cf : Cf) (tv : Nat → Int) (o : Int) (Q : Int → St → Prop) (K7 : Int → Int → St → Prop) (y1 : Int) (y2 : Int) (σ : St) : Prop :=
  ((cf.1 - 6) ≤ y2 →
    Q y1 σ) ∧
  (¬ (cf.1 - 6) ≤ y2 →
    ((0 : Int) ≤ y2 ∧ y2 < (cf.1 - 6)) ∧
    ∀ y1_7, y1_7 = w32 (y1 + (if (gA σ 323 o y2) = 0 then (1 : Int) else (0 : Int))) →
    ∀ y2_8, y2_8 = w32 (y2 + 1) →
    K7 y1_7 y2_8 σ)
abbrev rm_Space_empty : Room := { frames := 0, cells := 0, slots := 0, locals := 0 }
def wp_Space_empty (cf : Cf) (tv : Nat → Int) (o : Int) (Q : Int → St → Prop) (σ : St) : Prop :=
  ∀ y2_9, y2_9 = (4 + cf.2.2) →
  lQ2 (wp_Space_empty_L7 cf tv o Q) 0 y2_9 σ
/-! Space.roomy()I -/
def wp_Space_roomy_b40 (cf : Cf) (tv : Nat → Int) (o : Int) (Q : Int → St → Prop) (K7 : Int → Int → St → Prop) (y2 : Int) (t0 : Int) (t1 : Int) (σ : St) : Prop :=
  ∀ y1_10, y1_10 = w32 (t1 + t0) →
  ∀ y2_11, y2_11 = w32 (y2 + 1) →
  K7 y1_10 y2_11 σ
def wp_Space_roomy_b35 (cf : Cf) (tv : Nat → Int) (o : Int) (Q : Int → St → Prop) (K40 : Int → Int → Int → St → Prop) (y2 : Int) (t0 : Int) (σ : St) : Prop :=
  K40 y2 1 t0 σ
def wp_Space_roomy_L7 (cf : Cf) (tv : Nat → Int) (o : Int) (Q : Int → St → Prop) (K7 : Int → Int → St → Prop) (y1 : Int) (y2 : Int) (σ : St) : Prop :=
  ((cf.1 - 6) ≤ y2 →
    Q y1 σ) ∧
  (¬ (cf.1 - 6) ≤ y2 →
    ((0 : Int) ≤ y2 ∧ y2 < (cf.1 - 6)) ∧
    ((gA σ 323 o y2) = 0 →
      wp_Space_roomy_b35 cf tv o Q (wp_Space_roomy_b40 cf tv o Q K7) y2 y1 σ) ∧
    (¬ (gA σ 323 o y2) = 0 →
      ((0 : Int) ≤ y2 ∧ y2 < (cf.1 - 6)) ∧
      ((gA σ 325 o y2) = 0 →
        wp_Space_roomy_b40 cf tv o Q K7 y2 0 y1 σ) ∧
      (¬ (gA σ 325 o y2) = 0 →
        wp_Space_roomy_b35 cf tv o Q (wp_Space_roomy_b40 cf tv o Q K7) y2 y1 σ)))
abbrev rm_Space_roomy : Room := { frames := 0, cells := 0, slots := 0, locals := 0 }
def wp_Space_roomy (cf : Cf) (tv : Nat → Int) (o : Int) (Q : Int → St → Prop) (σ : St) : Prop :=
  ∀ y2_12, y2_12 = (4 + cf.2.2) →
  lQ2 (wp_Space_roomy_L7 cf tv o Q) 0 y2_12 σ
