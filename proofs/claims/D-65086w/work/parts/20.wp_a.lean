/-! Flash.fails()Z -/
abbrev rm_Flash_fails : Room := { frames := 0, cells := 0, slots := 0, locals := 0 }
def wp_Flash_fails (cf : Cf) (tv : Nat → Int) (Q : Int → St → Prop) (σ : St) : Prop :=
  (0 ≤ (gI σ 136 0) →
    ∀ σ_2, σ_2 = sI σ 136 0 (w32 ((gI σ 136 0) - 1)) →
    Q (if 0 ≤ (gI σ_2 136 0) then (0 : Int) else (1 : Int)) σ_2) ∧
  (¬ 0 ≤ (gI σ 136 0) →
    Q 0 σ)
/-! Arrays.rangeCheck(III)V -/
abbrev rm_Arrays_rangeCheck : Room := { frames := 0, cells := 0, slots := 0, locals := 0 }
def wp_Arrays_rangeCheck (cf : Cf) (tv : Nat → Int) (x0 : Int) (x1 : Int) (x2 : Int) (Q : St → Prop) (σ : St) : Prop :=
  (x1 ≤ x2 →
    (0 ≤ x1 →
      (x2 ≤ x0 →
        Q σ) ∧
      (¬ x2 ≤ x0 →
        False)) ∧
    (¬ 0 ≤ x1 →
      False)) ∧
  (¬ x1 ≤ x2 →
    False)
/-! Arrays.fill([BIIB)V -/
def wp_Arrays_fill_3_L10 (cf : Cf) (tv : Nat → Int) (x0f : Nat) (x0o : Int) (x1 : Int) (x2 : Int) (x3 : Int) (Q : St → Prop) (K10 : Int → St → Prop) (y4 : Int) (σ : St) : Prop :=
  (x2 ≤ y4 →
    Q σ) ∧
  (¬ x2 ≤ y4 →
    ((0 : Int) ≤ y4 ∧ y4 < (aln cf x0f x0o)) ∧
    ∀ σ_5, σ_5 = sA σ x0f x0o y4 x3 →
    ∀ y4_6, y4_6 = w32 (y4 + 1) →
    K10 y4_6 σ_5)
abbrev rm_Arrays_fill_3 : Room := { frames := 1, cells := 0, slots := 0, locals := 22 }
def wp_Arrays_fill_3 (cf : Cf) (tv : Nat → Int) (x0f : Nat) (x0o : Int) (x1 : Int) (x2 : Int) (x3 : Int) (Q : St → Prop) (σ : St) : Prop :=
  wp_Arrays_rangeCheck cf tv (aln cf x0f x0o) x1 x2 (fun σ_8 => RK σ_8 →
  lQ1 (wp_Arrays_fill_3_L10 cf tv x0f x0o x1 x2 x3 Q) x1 σ_8) σ
/-! Arrays.fill([IIII)V -/
def wp_Arrays_fill_4_L10 (cf : Cf) (tv : Nat → Int) (x0f : Nat) (x0o : Int) (x1 : Int) (x2 : Int) (x3 : Int) (Q : St → Prop) (K10 : Int → St → Prop) (y4 : Int) (σ : St) : Prop :=
  (x2 ≤ y4 →
    Q σ) ∧
  (¬ x2 ≤ y4 →
    ((0 : Int) ≤ y4 ∧ y4 < (aln cf x0f x0o)) ∧
    ∀ σ_5, σ_5 = sA σ x0f x0o y4 x3 →
    ∀ y4_6, y4_6 = w32 (y4 + 1) →
    K10 y4_6 σ_5)
abbrev rm_Arrays_fill_4 : Room := { frames := 1, cells := 0, slots := 0, locals := 22 }
def wp_Arrays_fill_4 (cf : Cf) (tv : Nat → Int) (x0f : Nat) (x0o : Int) (x1 : Int) (x2 : Int) (x3 : Int) (Q : St → Prop) (σ : St) : Prop :=
  wp_Arrays_rangeCheck cf tv (aln cf x0f x0o) x1 x2 (fun σ_8 => RK σ_8 →
  lQ1 (wp_Arrays_fill_4_L10 cf tv x0f x0o x1 x2 x3 Q) x1 σ_8) σ
/-! Arrays.fill([ZIIZ)V -/
def wp_Arrays_fill_5_L10 (cf : Cf) (tv : Nat → Int) (x0f : Nat) (x0o : Int) (x1 : Int) (x2 : Int) (x3 : Int) (Q : St → Prop) (K10 : Int → St → Prop) (y4 : Int) (σ : St) : Prop :=
  (x2 ≤ y4 →
    Q σ) ∧
  (¬ x2 ≤ y4 →
    ((0 : Int) ≤ y4 ∧ y4 < (aln cf x0f x0o)) ∧
    ∀ σ_5, σ_5 = sA σ x0f x0o y4 x3 →
    ∀ y4_6, y4_6 = w32 (y4 + 1) →
    K10 y4_6 σ_5)
abbrev rm_Arrays_fill_5 : Room := { frames := 1, cells := 0, slots := 0, locals := 22 }
def wp_Arrays_fill_5 (cf : Cf) (tv : Nat → Int) (x0f : Nat) (x0o : Int) (x1 : Int) (x2 : Int) (x3 : Int) (Q : St → Prop) (σ : St) : Prop :=
  wp_Arrays_rangeCheck cf tv (aln cf x0f x0o) x1 x2 (fun σ_8 => RK σ_8 →
  lQ1 (wp_Arrays_fill_5_L10 cf tv x0f x0o x1 x2 x3 Q) x1 σ_8) σ
/-! Flash.erase(I)Z -/
abbrev rm_Flash_erase : Room := { frames := 2, cells := 0, slots := 0, locals := 46 }
def wp_Flash_erase (cf : Cf) (tv : Nat → Int) (x1 : Int) (Q : Int → St → Prop) (σ : St) : Prop :=
  wp_Flash_fails cf tv (fun r_12 σ_13 => rZ r_12 → RK σ_13 →
  (r_12 = 0 →
    ∀ y2_14, y2_14 = w32 (x1 * cf.2.1) →
    wp_Arrays_fill_3 cf tv 130 0 (w32 (y2_14 * 128)) (w32 ((w32 (y2_14 + cf.2.1)) * 128)) (-1) (fun σ_16 => RK σ_16 →
    wp_Arrays_fill_4 cf tv 131 0 y2_14 (w32 (y2_14 + cf.2.1)) 0 (fun σ_18 => RK σ_18 →
    wp_Arrays_fill_5 cf tv 132 0 y2_14 (w32 (y2_14 + cf.2.1)) 0 (fun σ_20 => RK σ_20 →
    ((0 : Int) ≤ x1 ∧ x1 < cf.1) ∧
    ∀ σ_21, σ_21 = sA σ_20 133 0 x1 0 →
    ((0 : Int) ≤ x1 ∧ x1 < cf.1) ∧
    ∀ σ_22, σ_22 = sA σ_21 135 0 x1 0 →
    Q 1 σ_22) σ_18) σ_16) σ_13) ∧
  (¬ r_12 = 0 →
    Q 0 σ_13)) σ
/-! Arrays.fill([BB)V -/
def wp_Arrays_fill_L5 (cf : Cf) (tv : Nat → Int) (x0f : Nat) (x0o : Int) (x1 : Int) (Q : St → Prop) (K5 : Int → Int → St → Prop) (y2 : Int) (y3 : Int) (σ : St) : Prop :=
  (y3 ≤ y2 →
    Q σ) ∧
  (¬ y3 ≤ y2 →
    ((0 : Int) ≤ y2 ∧ y2 < (aln cf x0f x0o)) ∧
    ∀ σ_7, σ_7 = sA σ x0f x0o y2 x1 →
    ∀ y2_8, y2_8 = w32 (y2 + 1) →
    K5 y2_8 y3 σ_7)
abbrev rm_Arrays_fill : Room := { frames := 0, cells := 0, slots := 0, locals := 0 }
def wp_Arrays_fill (cf : Cf) (tv : Nat → Int) (x0f : Nat) (x0o : Int) (x1 : Int) (Q : St → Prop) (σ : St) : Prop :=
  ∀ y3_9, y3_9 = (aln cf x0f x0o) →
  lQ2 (wp_Arrays_fill_L5 cf tv x0f x0o x1 Q) 0 y3_9 σ
/-! House.putInt([BII)V -/
def wp_House_putInt_L2 (cf : Cf) (tv : Nat → Int) (x0f : Nat) (x0o : Int) (x1 : Int) (x2 : Int) (Q : St → Prop) (K2 : Int → St → Prop) (y3 : Int) (σ : St) : Prop :=
  (4 ≤ y3 →
    Q σ) ∧
  (¬ 4 ≤ y3 →
    ((0 : Int) ≤ w32 (x1 + y3) ∧ w32 (x1 + y3) < (aln cf x0f x0o)) ∧
    ∀ σ_5, σ_5 = sA σ x0f x0o (w32 (x1 + y3)) (b8 (iushr x2 (w32 (8 * y3)))) →
    ∀ y3_6, y3_6 = w32 (y3 + 1) →
    K2 y3_6 σ_5)
abbrev rm_House_putInt : Room := { frames := 0, cells := 0, slots := 0, locals := 0 }
def wp_House_putInt (cf : Cf) (tv : Nat → Int) (x0f : Nat) (x0o : Int) (x1 : Int) (x2 : Int) (Q : St → Prop) (σ : St) : Prop :=
  lQ1 (wp_House_putInt_L2 cf tv x0f x0o x1 x2 Q) 0 σ
/-! House.check(I[BII)I -/
def wp_House_check_L6 (cf : Cf) (tv : Nat → Int) (x0 : Int) (x1f : Nat) (x1o : Int) (x2 : Int) (x3 : Int) (Q : Int → St → Prop) (K6 : Int → Int → St → Prop) (y4 : Int) (y5 : Int) (σ : St) : Prop :=
  ((w32 (x2 + x3)) ≤ y5 →
    Q y4 σ) ∧
  (¬ (w32 (x2 + x3)) ≤ y5 →
    ((0 : Int) ≤ y5 ∧ y5 < (aln cf x1f x1o)) ∧
    ((0 : Int) ≤ iand (ixor y4 (gA σ x1f x1o y5)) 255 ∧ iand (ixor y4 (gA σ x1f x1o y5)) 255 < 256) ∧
    ∀ y4_3, y4_3 = ixor (iushr y4 8) (tv (Int.toNat (iand (ixor y4 (gA σ x1f x1o y5)) 255))) →
    ∀ y5_4, y5_4 = w32 (y5 + 1) →
    K6 y4_3 y5_4 σ)
abbrev rm_House_check : Room := { frames := 0, cells := 0, slots := 0, locals := 0 }
def wp_House_check (cf : Cf) (tv : Nat → Int) (x0 : Int) (x1f : Nat) (x1o : Int) (x2 : Int) (x3 : Int) (Q : Int → St → Prop) (σ : St) : Prop :=
  lQ2 (wp_House_check_L6 cf tv x0 x1f x1o x2 x3 Q) x0 x2 σ
/-! Flash.guard([BI)I -/
def wp_Flash_guard_b63 (cf : Cf) (tv : Nat → Int) (x1f : Nat) (x1o : Int) (x2 : Int) (Q : Int → St → Prop) (K31 : Int → Int → Int → Int → Int → St → Prop) (y3 : Int) (y4 : Int) (y5 : Int) (y6 : Int) (y7 : Int) (σ : St) : Prop :=
  ∀ y7_19, y7_19 = w32 (y7 + 1) →
  ∀ y6_20, y6_20 = ishr y6 1 →
  K31 y3 y4 y5 y6_20 y7_19 σ
def wp_Flash_guard_L31 (cf : Cf) (tv : Nat → Int) (x1f : Nat) (x1o : Int) (x2 : Int) (Q : Int → St → Prop) (K8 : Int → Int → Int → St → Prop) (K31 : Int → Int → Int → Int → Int → St → Prop) (y3 : Int) (y4 : Int) (y5 : Int) (y6 : Int) (y7 : Int) (σ : St) : Prop :=
  (y6 = 0 →
    ∀ y5_21, y5_21 = w32 (y5 + 1) →
    K8 y3 y4 y5_21 σ) ∧
  (¬ y6 = 0 →
    (¬ (iand y6 1) = 1 →
      wp_Flash_guard_b63 cf tv x1f x1o x2 Q K31 y3 y4 y5 y6 y7 σ) ∧
    ((iand y6 1) = 1 →
      ∀ y3_22, y3_22 = ixor y3 (w32 ((w32 ((w32 (8 * y5)) + y7)) + 1)) →
      ∀ y4_23, y4_23 = ixor y4 1 →
      wp_Flash_guard_b63 cf tv x1f x1o x2 Q K31 y3_22 y4_23 y5 y6 y7 σ))
def wp_Flash_guard_L8 (cf : Cf) (tv : Nat → Int) (x1f : Nat) (x1o : Int) (x2 : Int) (Q : Int → St → Prop) (K8 : Int → Int → Int → St → Prop) (y3 : Int) (y4 : Int) (y5 : Int) (σ : St) : Prop :=
  (128 ≤ y5 →
    Q (ior (ishl y4 11) y3) σ) ∧
  (¬ 128 ≤ y5 →
    ((0 : Int) ≤ w32 (x2 + y5) ∧ w32 (x2 + y5) < (aln cf x1f x1o)) ∧
    ∀ y6_24, y6_24 = iand (gA σ x1f x1o (w32 (x2 + y5))) 255 →
    lQ5 (wp_Flash_guard_L31 cf tv x1f x1o x2 Q K8) y3 y4 y5 y6_24 0 σ)
abbrev rm_Flash_guard : Room := { frames := 0, cells := 0, slots := 0, locals := 0 }
def wp_Flash_guard (cf : Cf) (tv : Nat → Int) (x1f : Nat) (x1o : Int) (x2 : Int) (Q : Int → St → Prop) (σ : St) : Prop :=
  lQ3 (wp_Flash_guard_L8 cf tv x1f x1o x2 Q) 0 0 0 σ
/-! Flash.write(II[BI)Z -/
abbrev rm_Flash_write : Room := { frames := 1, cells := 0, slots := 0, locals := 80 }
def wp_Flash_write (cf : Cf) (tv : Nat → Int) (x1 : Int) (x2 : Int) (x3f : Nat) (x3o : Int) (x4 : Int) (Q : Int → St → Prop) (σ : St) : Prop :=
  ∀ y5_10, y5_10 = w32 ((w32 (x1 * cf.2.1)) + x2) →
  wp_Flash_fails cf tv (fun r_11 σ_12 => rZ r_11 → RK σ_12 →
  (((0 : Int) ≤ x4 ∧ (0 : Int) ≤ w32 (y5_10 * 128) ∧ (0 : Int) ≤ (((if r_11 = 0 then (128 : Int) else (64 : Int))) : Int)) ∧ x4 + (if r_11 = 0 then (128 : Int) else (64 : Int)) ≤ (aln cf x3f x3o) ∧ (w32 (y5_10 * 128)) + (if r_11 = 0 then (128 : Int) else (64 : Int)) ≤ (128 * (cf.1 * cf.2.1))) ∧
  ∀ σ_13, σ_13 = sAr σ_12 130 0 (cpy (gA σ_12 x3f x3o) (gA σ_12 130 0) x4 (w32 (y5_10 * 128)) (if r_11 = 0 then (128 : Int) else (64 : Int))) →
  wp_Flash_guard cf tv 130 0 (w32 (y5_10 * 128)) (fun r_14 σ_15 => rI r_14 → RK σ_15 →
  ((0 : Int) ≤ y5_10 ∧ y5_10 < (cf.1 * cf.2.1)) ∧
  ∀ σ_16, σ_16 = sA σ_15 131 0 y5_10 r_14 →
  ((0 : Int) ≤ y5_10 ∧ y5_10 < (cf.1 * cf.2.1)) ∧
  ∀ σ_17, σ_17 = sA σ_16 132 0 y5_10 0 →
  ((0 : Int) ≤ x1 ∧ x1 < cf.1) ∧
  ∀ σ_18, σ_18 = sA σ_17 133 0 x1 (w32 (x2 + 1)) →
  Q (if r_11 = 0 then (1 : Int) else (0 : Int)) σ_18) σ_13) σ
/-! Flash.giveUp(I)V -/
abbrev rm_Flash_giveUp : Room := { frames := 0, cells := 0, slots := 0, locals := 0 }
def wp_Flash_giveUp (cf : Cf) (tv : Nat → Int) (x1 : Int) (Q : St → Prop) (σ : St) : Prop :=
  ((0 : Int) ≤ x1 ∧ x1 < cf.1) ∧
  ∀ σ_2, σ_2 = sA σ 134 0 x1 1 →
  Q σ_2
/-! House.putLong([BIJ)V -/
abbrev rm_House_putLong : Room := { frames := 1, cells := 0, slots := 0, locals := 23 }
def wp_House_putLong (cf : Cf) (tv : Nat → Int) (x0f : Nat) (x0o : Int) (x1 : Int) (x2 : Int) (Q : St → Prop) (σ : St) : Prop :=
  wp_House_putInt cf tv x0f x0o x1 (w32 x2) (fun σ_6 => RK σ_6 →
  wp_House_putInt cf tv x0f x0o (w32 (x1 + 4)) (w32 (lushr x2 32)) (fun σ_8 => RK σ_8 →
  Q σ_8) σ_6) σ
/-! Flash.read(II[BI)V -/
abbrev rm_Flash_read : Room := { frames := 1, cells := 0, slots := 0, locals := 80 }
def wp_Flash_read (cf : Cf) (tv : Nat → Int) (x1 : Int) (x2 : Int) (x3f : Nat) (x3o : Int) (x4 : Int) (Q : St → Prop) (σ : St) : Prop :=
  ∀ y5_9, y5_9 = w32 ((w32 (x1 * cf.2.1)) + x2) →
  (((0 : Int) ≤ w32 (y5_9 * 128) ∧ (0 : Int) ≤ x4 ∧ (0 : Int) ≤ (128 : Int)) ∧ (w32 (y5_9 * 128)) + 128 ≤ (128 * (cf.1 * cf.2.1)) ∧ x4 + 128 ≤ (aln cf x3f x3o)) ∧
  ∀ σ_10, σ_10 = sAr σ x3f x3o (cpy (gA σ 130 0) (gA σ x3f x3o) (w32 (y5_9 * 128)) x4 128) →
  ((0 : Int) ≤ x1 ∧ x1 < cf.1) ∧
  (x2 < (gA σ_10 133 0 x1) →
    ((0 : Int) ≤ y5_9 ∧ y5_9 < (cf.1 * cf.2.1)) ∧
    wp_Flash_guard cf tv x3f x3o x4 (fun r_11 σ_12 => rI r_11 → RK σ_12 →
    ∀ y6_13, y6_13 = ixor (gA σ_10 131 0 y5_9) r_11 →
    (¬ y6_13 = 0 →
      ((0 : Int) ≤ x1 ∧ x1 < cf.1) ∧
      ∀ σ_14, σ_14 = sA σ_12 135 0 x1 1 →
      ∀ y7_15, y7_15 = w32 ((iand y6_13 2047) - 1) →
      ((0 : Int) ≤ w32 (x4 + (jdv y7_15 8)) ∧ w32 (x4 + (jdv y7_15 8)) < (aln cf x3f x3o)) ∧
      ((0 : Int) ≤ w32 (x4 + (jdv y7_15 8)) ∧ w32 (x4 + (jdv y7_15 8)) < (aln cf x3f x3o)) ∧
      ∀ σ_16, σ_16 = sA σ_14 x3f x3o (w32 (x4 + (jdv y7_15 8))) (b8 (ixor (gA σ_14 x3f x3o (w32 (x4 + (jdv y7_15 8)))) (b8 (ishl 1 (jrm y7_15 8))))) →
      Q σ_16) ∧
    (y6_13 = 0 →
      Q σ_12)) σ_10) ∧
  (¬ x2 < (gA σ_10 133 0 x1) →
    Q σ_10)
/-! Knot.begin(I)V -/
abbrev rm_Knot_begin : Room := { frames := 0, cells := 0, slots := 0, locals := 0 }
def wp_Knot_begin (cf : Cf) (tv : Nat → Int) (o : Int) (x1 : Int) (Q : St → Prop) (σ : St) : Prop :=
  ∀ σ_5, σ_5 = sI σ 576 o x1 →
  ∀ σ_6, σ_6 = sI σ_5 577 o 0 →
  ∀ σ_7, σ_7 = sI σ_6 584 o 1 →
  ∀ σ_8, σ_8 = sI σ_7 585 o (-1) →
  Q σ_8
/-! Long.compare(JJ)I -/
abbrev rm_Long_compare : Room := { frames := 0, cells := 0, slots := 0, locals := 0 }
def wp_Long_compare (cf : Cf) (tv : Nat → Int) (x0 : Int) (x2 : Int) (Q : Int → St → Prop) (σ : St) : Prop :=
  (x2 ≤ x0 →
    (¬ x0 = x2 →
      Q 1 σ) ∧
    (x0 = x2 →
      Q 0 σ)) ∧
  (¬ x2 ≤ x0 →
    Q (-1) σ)
/-! Long.compareUnsigned(JJ)I -/
abbrev rm_Long_compareUnsigned : Room := { frames := 1, cells := 0, slots := 0, locals := 23 }
def wp_Long_compareUnsigned (cf : Cf) (tv : Nat → Int) (x0 : Int) (x2 : Int) (Q : Int → St → Prop) (σ : St) : Prop :=
  wp_Long_compare cf tv (w64 (x0 + (-9223372036854775808))) (w64 (x2 + (-9223372036854775808))) (fun r_3 σ_4 => rI r_3 → RK σ_4 →
  Q r_3 σ_4) σ
/-! Knot.isBefore(JJJJ)Z -/
abbrev rm_Knot_isBefore : Room := { frames := 2, cells := 0, slots := 0, locals := 46 }
def wp_Knot_isBefore (cf : Cf) (tv : Nat → Int) (x0 : Int) (x2 : Int) (x4 : Int) (x6 : Int) (Q : Int → St → Prop) (σ : St) : Prop :=
  (x0 = x4 →
    wp_Long_compareUnsigned cf tv x2 x6 (fun r_3 σ_4 => rI r_3 → RK σ_4 →
    (0 ≤ r_3 →
      Q 0 σ_4) ∧
    (¬ 0 ≤ r_3 →
      Q 1 σ_4)) σ) ∧
  (¬ x0 = x4 →
    (x4 ≤ x0 →
      Q 0 σ) ∧
    (¬ x4 ≤ x0 →
      Q 1 σ))
/-! Knot.slot(JJ)I -/
def wp_Knot_slot_L8 (cf : Cf) (tv : Nat → Int) (o : Int) (x1 : Int) (x3 : Int) (Q : Int → St → Prop) (K8 : Int → St → Prop) (y5 : Int) (σ : St) : Prop :=
  (y5 < 0 →
    Q y5 σ) ∧
  (¬ y5 < 0 →
    ((0 : Int) ≤ y5 ∧ y5 < 9) ∧
    ((0 : Int) ≤ y5 ∧ y5 < 9) ∧
    wp_Knot_isBefore cf tv x1 x3 (gA σ 578 o y5) (gA σ 579 o y5) (fun r_5 σ_6 => rZ r_5 → RK σ_6 →
    (r_5 = 0 →
      Q y5 σ_6) ∧
    (¬ r_5 = 0 →
      ∀ y5_7, y5_7 = w32 (y5 + (-1)) →
      K8 y5_7 σ_6)) σ)
abbrev rm_Knot_slot : Room := { frames := 3, cells := 0, slots := 0, locals := 73 }
def wp_Knot_slot (cf : Cf) (tv : Nat → Int) (o : Int) (x1 : Int) (x3 : Int) (Q : Int → St → Prop) (σ : St) : Prop :=
  ∀ y5_8, y5_8 = w32 ((gI σ 577 o) - 1) →
  lQ1 (wp_Knot_slot_L8 cf tv o x1 x3 Q) y5_8 σ
/-! Knot.take(ILNandHouse$Knot;I)V -/
abbrev rm_Knot_take : Room := { frames := 0, cells := 0, slots := 0, locals := 0 }
def wp_Knot_take (cf : Cf) (tv : Nat → Int) (o : Int) (x1 : Int) (x2 : Int) (x3 : Int) (Q : St → Prop) (σ : St) : Prop :=
  0 ≤ x2 ∧
  ((0 : Int) ≤ x3 ∧ x3 < 9) ∧
  ((0 : Int) ≤ x1 ∧ x1 < 9) ∧
  ∀ σ_9, σ_9 = sA σ 578 o x1 (gA σ 578 x2 x3) →
  ((0 : Int) ≤ x3 ∧ x3 < 9) ∧
  ((0 : Int) ≤ x1 ∧ x1 < 9) ∧
  ∀ σ_10, σ_10 = sA σ_9 579 o x1 (gA σ_9 579 x2 x3) →
  ((0 : Int) ≤ x3 ∧ x3 < 9) ∧
  ((0 : Int) ≤ x1 ∧ x1 < 9) ∧
  ∀ σ_11, σ_11 = sA σ_10 580 o x1 (gA σ_10 580 x2 x3) →
  ((0 : Int) ≤ x3 ∧ x3 < 9) ∧
  ((0 : Int) ≤ x1 ∧ x1 < 9) ∧
  ∀ σ_12, σ_12 = sA σ_11 581 o x1 (gA σ_11 581 x2 x3) →
  ((0 : Int) ≤ x3 ∧ x3 < 9) ∧
  ((0 : Int) ≤ x1 ∧ x1 < 9) ∧
  ∀ σ_13, σ_13 = sA σ_12 582 o x1 (gA σ_12 582 x2 x3) →
  ((0 : Int) ≤ x3 ∧ x3 < 9) ∧
  ((0 : Int) ≤ x1 ∧ x1 < 9) ∧
  ∀ σ_14, σ_14 = sA σ_13 583 o x1 (gA σ_13 583 x2 x3) →
  Q σ_14
/-! Knot.part(I)V -/
def wp_Knot_part_L5 (cf : Cf) (tv : Nat → Int) (o : Int) (x1 : Int) (Q : St → Prop) (K5 : Int → St → Prop) (y2 : Int) (σ : St) : Prop :=
  (y2 ≤ x1 →
    ∀ σ_6, σ_6 = sI σ 577 o (w32 ((gI σ 577 o) + 1)) →
    Q σ_6) ∧
  (¬ y2 ≤ x1 →
    wp_Knot_take cf tv o y2 o (w32 (y2 - 1)) (fun σ_8 => RK σ_8 →
    ∀ y2_9, y2_9 = w32 (y2 + (-1)) →
    K5 y2_9 σ_8) σ)
abbrev rm_Knot_part : Room := { frames := 1, cells := 0, slots := 0, locals := 23 }
def wp_Knot_part (cf : Cf) (tv : Nat → Int) (o : Int) (x1 : Int) (Q : St → Prop) (σ : St) : Prop :=
  ∀ y2_10, y2_10 = gI σ 577 o →
  lQ1 (wp_Knot_part_L5 cf tv o x1 Q) y2_10 σ
/-! Knot.set(IJJLNandHouse$Knot;)V -/
abbrev rm_Knot_set : Room := { frames := 0, cells := 0, slots := 0, locals := 0 }
def wp_Knot_set (cf : Cf) (tv : Nat → Int) (o : Int) (x1 : Int) (x2 : Int) (x4 : Int) (x6 : Int) (Q : St → Prop) (σ : St) : Prop :=
  ((0 : Int) ≤ x1 ∧ x1 < 9) ∧
  ∀ σ_4, σ_4 = sA σ 578 o x1 x2 →
  ((0 : Int) ≤ x1 ∧ x1 < 9) ∧
  ∀ σ_5, σ_5 = sA σ_4 579 o x1 x4 →
  ((0 : Int) ≤ x1 ∧ x1 < 9) ∧
  ∀ σ_6, σ_6 = sA σ_5 583 o x1 x6 →
  Q σ_6
/-! House.eights(I)I -/
abbrev rm_House_eights : Room := { frames := 0, cells := 0, slots := 0, locals := 0 }
def wp_House_eights (cf : Cf) (tv : Nat → Int) (x0 : Int) (Q : Int → St → Prop) (σ : St) : Prop :=
  Q (iand (w32 (x0 + 7)) (-8)) σ
/-! Knot.leave(I)V -/
def wp_Knot_leave_L2 (cf : Cf) (tv : Nat → Int) (o : Int) (x1 : Int) (Q : St → Prop) (K2 : Int → St → Prop) (y2 : Int) (σ : St) : Prop :=
  ((gI σ 577 o) ≤ (w32 (y2 + 1)) →
    ∀ σ_6, σ_6 = sI σ 577 o (w32 ((gI σ 577 o) - 1)) →
    ((0 : Int) ≤ gI σ_6 577 o ∧ gI σ_6 577 o < 9) ∧
    ∀ σ_7, σ_7 = sA σ_6 583 o (gI σ_6 577 o) (-1) →
    Q σ_7) ∧
  (¬ (gI σ 577 o) ≤ (w32 (y2 + 1)) →
    wp_Knot_take cf tv o y2 o (w32 (y2 + 1)) (fun σ_9 => RK σ_9 →
    ∀ y2_10, y2_10 = w32 (y2 + 1) →
    K2 y2_10 σ_9) σ)
abbrev rm_Knot_leave : Room := { frames := 1, cells := 0, slots := 0, locals := 23 }
def wp_Knot_leave (cf : Cf) (tv : Nat → Int) (o : Int) (x1 : Int) (Q : St → Prop) (σ : St) : Prop :=
  lQ1 (wp_Knot_leave_L2 cf tv o x1 Q) x1 σ
/-! Arrays.fill([II)V -/
def wp_Arrays_fill_2_L5 (cf : Cf) (tv : Nat → Int) (x0f : Nat) (x0o : Int) (x1 : Int) (Q : St → Prop) (K5 : Int → Int → St → Prop) (y2 : Int) (y3 : Int) (σ : St) : Prop :=
  (y3 ≤ y2 →
    Q σ) ∧
  (¬ y3 ≤ y2 →
    ((0 : Int) ≤ y2 ∧ y2 < (aln cf x0f x0o)) ∧
    ∀ σ_7, σ_7 = sA σ x0f x0o y2 x1 →
    ∀ y2_8, y2_8 = w32 (y2 + 1) →
    K5 y2_8 y3 σ_7)
abbrev rm_Arrays_fill_2 : Room := { frames := 0, cells := 0, slots := 0, locals := 0 }
def wp_Arrays_fill_2 (cf : Cf) (tv : Nat → Int) (x0f : Nat) (x0o : Int) (x1 : Int) (Q : St → Prop) (σ : St) : Prop :=
  ∀ y3_9, y3_9 = (aln cf x0f x0o) →
  lQ2 (wp_Arrays_fill_2_L5 cf tv x0f x0o x1 Q) 0 y3_9 σ
/-! Arrays.fill([ZZ)V -/
def wp_Arrays_fill_6_L5 (cf : Cf) (tv : Nat → Int) (x0f : Nat) (x0o : Int) (x1 : Int) (Q : St → Prop) (K5 : Int → Int → St → Prop) (y2 : Int) (y3 : Int) (σ : St) : Prop :=
  (y3 ≤ y2 →
    Q σ) ∧
  (¬ y3 ≤ y2 →
    ((0 : Int) ≤ y2 ∧ y2 < (aln cf x0f x0o)) ∧
    ∀ σ_7, σ_7 = sA σ x0f x0o y2 x1 →
    ∀ y2_8, y2_8 = w32 (y2 + 1) →
    K5 y2_8 y3 σ_7)
abbrev rm_Arrays_fill_6 : Room := { frames := 0, cells := 0, slots := 0, locals := 0 }
def wp_Arrays_fill_6 (cf : Cf) (tv : Nat → Int) (x0f : Nat) (x0o : Int) (x1 : Int) (Q : St → Prop) (σ : St) : Prop :=
  ∀ y3_9, y3_9 = (aln cf x0f x0o) →
  lQ2 (wp_Arrays_fill_6_L5 cf tv x0f x0o x1 Q) 0 y3_9 σ
/-! Flash.written(I)I -/
abbrev rm_Flash_written : Room := { frames := 0, cells := 0, slots := 0, locals := 0 }
def wp_Flash_written (cf : Cf) (tv : Nat → Int) (x1 : Int) (Q : Int → St → Prop) (σ : St) : Prop :=
  ((0 : Int) ≤ x1 ∧ x1 < cf.1) ∧
  Q (gA σ 133 0 x1) σ
/-! Flash.isBroken(I)Z -/
abbrev rm_Flash_isBroken : Room := { frames := 0, cells := 0, slots := 0, locals := 0 }
def wp_Flash_isBroken (cf : Cf) (tv : Nat → Int) (x1 : Int) (Q : Int → St → Prop) (σ : St) : Prop :=
  ((0 : Int) ≤ x1 ∧ x1 < cf.1) ∧
  Q (gA σ 134 0 x1) σ
/-! House.getInt([BI)I -/
def wp_House_getInt_L4 (cf : Cf) (tv : Nat → Int) (x0f : Nat) (x0o : Int) (x1 : Int) (Q : Int → St → Prop) (K4 : Int → Int → St → Prop) (y2 : Int) (y3 : Int) (σ : St) : Prop :=
  (y3 < 0 →
    Q y2 σ) ∧
  (¬ y3 < 0 →
    ((0 : Int) ≤ w32 (x1 + y3) ∧ w32 (x1 + y3) < (aln cf x0f x0o)) ∧
    ∀ y2_5, y2_5 = ior (ishl y2 8) (iand (gA σ x0f x0o (w32 (x1 + y3))) 255) →
    ∀ y3_6, y3_6 = w32 (y3 + (-1)) →
    K4 y2_5 y3_6 σ)
abbrev rm_House_getInt : Room := { frames := 0, cells := 0, slots := 0, locals := 0 }
def wp_House_getInt (cf : Cf) (tv : Nat → Int) (x0f : Nat) (x0o : Int) (x1 : Int) (Q : Int → St → Prop) (σ : St) : Prop :=
  lQ2 (wp_House_getInt_L4 cf tv x0f x0o x1 Q) 0 3 σ
/-! House.getLong([BI)J -/
abbrev rm_House_getLong : Room := { frames := 1, cells := 0, slots := 0, locals := 23 }
def wp_House_getLong (cf : Cf) (tv : Nat → Int) (x0f : Nat) (x0o : Int) (x1 : Int) (Q : Int → St → Prop) (σ : St) : Prop :=
  wp_House_getInt cf tv x0f x0o (w32 (x1 + 4)) (fun r_5 σ_6 => rI r_5 → RK σ_6 →
  wp_House_getInt cf tv x0f x0o x1 (fun r_7 σ_8 => rI r_7 → RK σ_8 →
  Q (lor (lshl r_5 32) (land r_7 4294967295)) σ_8) σ_6) σ
/-! House.isIn(III)Z -/
abbrev rm_House_isIn : Room := { frames := 0, cells := 0, slots := 0, locals := 0 }
def wp_House_isIn (cf : Cf) (tv : Nat → Int) (x0 : Int) (x1 : Int) (x2 : Int) (Q : Int → St → Prop) (σ : St) : Prop :=
  (x0 < x1 →
    Q 0 σ) ∧
  (¬ x0 < x1 →
    (x2 < x0 →
      Q 0 σ) ∧
    (¬ x2 < x0 →
      Q 1 σ))
/-! Flash.isWeak(I)Z -/
abbrev rm_Flash_isWeak : Room := { frames := 0, cells := 0, slots := 0, locals := 0 }
def wp_Flash_isWeak (cf : Cf) (tv : Nat → Int) (x1 : Int) (Q : Int → St → Prop) (σ : St) : Prop :=
  ((0 : Int) ≤ x1 ∧ x1 < cf.1) ∧
  Q (gA σ 135 0 x1) σ
/-! Flash.failIn(I)V -/
abbrev rm_Flash_failIn : Room := { frames := 0, cells := 0, slots := 0, locals := 0 }
def wp_Flash_failIn (cf : Cf) (tv : Nat → Int) (x1 : Int) (Q : St → Prop) (σ : St) : Prop :=
  ∀ σ_2, σ_2 = sI σ 136 0 (w32 (x1 - 1)) →
  Q σ_2
/-! Flash.turn(I)V -/
def wp_Flash_turn_b180 (cf : Cf) (tv : Nat → Int) (x1 : Int) (Q : St → Prop) (K98 : Int → Int → Int → Int → St → Prop) (y3 : Int) (y4 : Int) (y5 : Int) (y6 : Int) (σ : St) : Prop :=
  ∀ y6_34, y6_34 = w32 (y6 + 1) →
  K98 y3 y4 y5 y6_34 σ
def wp_Flash_turn_L98 (cf : Cf) (tv : Nat → Int) (x1 : Int) (Q : St → Prop) (K86 : Int → Int → Int → St → Prop) (K98 : Int → Int → Int → Int → St → Prop) (y3 : Int) (y4 : Int) (y5 : Int) (y6 : Int) (σ : St) : Prop :=
  ((0 : Int) ≤ y5 ∧ y5 < cf.1) ∧
  ((gA σ 133 0 y5) ≤ y6 →
    ∀ y5_35, y5_35 = w32 (y5 + 1) →
    K86 y3 y4 y5_35 σ) ∧
  (¬ (gA σ 133 0 y5) ≤ y6 →
    ∀ y7_36, y7_36 = w32 ((w32 (y5 * cf.2.1)) + y6) →
    ((0 : Int) ≤ y7_36 ∧ y7_36 < (cf.1 * cf.2.1)) ∧
    ((gA σ 132 0 y7_36) = 0 →
      (¬ y3 = 0 →
        ∀ y3_37, y3_37 = w32 (y3 + (-1)) →
        wp_Flash_turn_b180 cf tv x1 Q K98 y3_37 y4 y5 y6 σ) ∧
      (y3 = 0 →
        ((0 : Int) ≤ w32 ((w32 (y7_36 * 128)) + (jdv y4 8)) ∧ w32 ((w32 (y7_36 * 128)) + (jdv y4 8)) < (128 * (cf.1 * cf.2.1))) ∧
        ((0 : Int) ≤ w32 ((w32 (y7_36 * 128)) + (jdv y4 8)) ∧ w32 ((w32 (y7_36 * 128)) + (jdv y4 8)) < (128 * (cf.1 * cf.2.1))) ∧
        ∀ σ_38, σ_38 = sA σ 130 0 (w32 ((w32 (y7_36 * 128)) + (jdv y4 8))) (b8 (ixor (gA σ 130 0 (w32 ((w32 (y7_36 * 128)) + (jdv y4 8)))) (b8 (ishl 1 (jrm y4 8))))) →
        ((0 : Int) ≤ y7_36 ∧ y7_36 < (cf.1 * cf.2.1)) ∧
        ∀ σ_39, σ_39 = sA σ_38 132 0 y7_36 1 →
        Q σ_39)) ∧
    (¬ (gA σ 132 0 y7_36) = 0 →
      wp_Flash_turn_b180 cf tv x1 Q K98 y3 y4 y5 y6 σ))
def wp_Flash_turn_L15 (cf : Cf) (tv : Nat → Int) (x1 : Int) (Q : St → Prop) (K4 : Int → Int → St → Prop) (K15 : Int → Int → Int → St → Prop) (y2 : Int) (y3 : Int) (y4 : Int) (σ : St) : Prop :=
  ((0 : Int) ≤ y3 ∧ y3 < cf.1) ∧
  ((gA σ 133 0 y3) ≤ y4 →
    ∀ y3_40, y3_40 = w32 (y3 + 1) →
    K4 y2 y3_40 σ) ∧
  (¬ (gA σ 133 0 y3) ≤ y4 →
    ((0 : Int) ≤ w32 ((w32 (y3 * cf.2.1)) + y4) ∧ w32 ((w32 (y3 * cf.2.1)) + y4) < (cf.1 * cf.2.1)) ∧
    ∀ y2_41, y2_41 = w32 (y2 + (if (gA σ 132 0 (w32 ((w32 (y3 * cf.2.1)) + y4))) = 0 then (1 : Int) else (0 : Int))) →
    ∀ y4_42, y4_42 = w32 (y4 + 1) →
    K15 y2_41 y3 y4_42 σ)
def wp_Flash_turn_L86 (cf : Cf) (tv : Nat → Int) (x1 : Int) (Q : St → Prop) (K86 : Int → Int → Int → St → Prop) (y3 : Int) (y4 : Int) (y5 : Int) (σ : St) : Prop :=
  (cf.1 ≤ y5 →
    Q σ) ∧
  (¬ cf.1 ≤ y5 →
    lQ4 (wp_Flash_turn_L98 cf tv x1 Q K86) y3 y4 y5 0 σ)
def wp_Flash_turn_L4 (cf : Cf) (tv : Nat → Int) (x1 : Int) (Q : St → Prop) (K4 : Int → Int → St → Prop) (y2 : Int) (y3 : Int) (σ : St) : Prop :=
  (cf.1 ≤ y3 →
    (¬ y2 = 0 →
      ¬ y2 = 0 ∧
      ∀ y3_43, y3_43 = jrm (jdv x1 1024) y2 →
      ∀ y4_44, y4_44 = jrm x1 1024 →
      lQ3 (wp_Flash_turn_L86 cf tv x1 Q) y3_43 y4_44 0 σ) ∧
    (y2 = 0 →
      Q σ)) ∧
  (¬ cf.1 ≤ y3 →
    lQ3 (wp_Flash_turn_L15 cf tv x1 Q K4) y2 y3 0 σ)
abbrev rm_Flash_turn : Room := { frames := 0, cells := 0, slots := 0, locals := 0 }
def wp_Flash_turn (cf : Cf) (tv : Nat → Int) (x1 : Int) (Q : St → Prop) (σ : St) : Prop :=
  lQ2 (wp_Flash_turn_L4 cf tv x1 Q) 0 0 σ
/-! Row.clear()V -/
abbrev rm_Row_clear : Room := { frames := 0, cells := 0, slots := 0, locals := 0 }
def wp_Row_clear (cf : Cf) (tv : Nat → Int) (o : Int) (Q : St → Prop) (σ : St) : Prop :=
  ∀ σ_3, σ_3 = sI σ 513 o 0 →
  ∀ σ_4, σ_4 = sI σ_3 514 o 0 →
  Q σ_4
/-! Row.begin(II)LNandHouse$Row; -/
abbrev rm_Row_begin : Room := { frames := 2, cells := 0, slots := 0, locals := 46 }
def wp_Row_begin (cf : Cf) (tv : Nat → Int) (o : Int) (x1 : Int) (x2 : Int) (Q : St → Prop) (σ : St) : Prop :=
  ∀ σ_10, σ_10 = sI σ 513 o (gI σ 514 o) →
  ∀ σ_11, σ_11 = sI σ_10 514 o (w32 ((gI σ_10 513 o) + x2)) →
  wp_Arrays_fill_3 cf tv 512 o (gI σ_11 513 o) (gI σ_11 514 o) 0 (fun σ_13 => RK σ_13 →
  wp_House_putInt cf tv 512 o (w32 ((gI σ_13 513 o) + 4)) x2 (fun σ_15 => RK σ_15 →
  ((0 : Int) ≤ w32 ((gI σ_15 513 o) + 16) ∧ w32 ((gI σ_15 513 o) + 16) < (rowL o)) ∧
  ∀ σ_16, σ_16 = sA σ_15 512 o (w32 ((gI σ_15 513 o) + 16)) (b8 x1) →
  wp_House_putInt cf tv 512 o (w32 ((gI σ_16 513 o) + 20)) 1414677829 (fun σ_18 => RK σ_18 →
  Q σ_18) σ_16) σ_13) σ_11
/-! Row.put(II)LNandHouse$Row; -/
abbrev rm_Row_put : Room := { frames := 1, cells := 0, slots := 0, locals := 23 }
def wp_Row_put (cf : Cf) (tv : Nat → Int) (o : Int) (x1 : Int) (x2 : Int) (Q : St → Prop) (σ : St) : Prop :=
  wp_House_putInt cf tv 512 o (w32 ((w32 ((gI σ 513 o) + 24)) + x1)) x2 (fun σ_4 => RK σ_4 →
  Q σ_4) σ
/-! Row.length()I -/
abbrev rm_Row_length : Room := { frames := 1, cells := 0, slots := 0, locals := 23 }
def wp_Row_length (cf : Cf) (tv : Nat → Int) (o : Int) (Q : Int → St → Prop) (σ : St) : Prop :=
  wp_House_getInt cf tv 512 o (w32 ((gI σ 513 o) + 4)) (fun r_3 σ_4 => rI r_3 → RK σ_4 →
  Q r_3 σ_4) σ
/-! Row.close(JZ)V -/
abbrev rm_Row_close : Room := { frames := 2, cells := 0, slots := 0, locals := 46 }
def wp_Row_close (cf : Cf) (tv : Nat → Int) (o : Int) (x1 : Int) (x3 : Int) (Q : St → Prop) (σ : St) : Prop :=
  wp_House_putLong cf tv 512 o (w32 ((gI σ 513 o) + 8)) x1 (fun σ_11 => RK σ_11 →
  ((0 : Int) ≤ w32 ((gI σ_11 513 o) + 17) ∧ w32 ((gI σ_11 513 o) + 17) < (rowL o)) ∧
  ∀ σ_12, σ_12 = sA σ_11 512 o (w32 ((gI σ_11 513 o) + 17)) (b8 (if x3 = 0 then (0 : Int) else (1 : Int))) →
  wp_Row_length cf tv o (fun r_13 σ_14 => rI r_13 → RK σ_14 →
  wp_House_check cf tv (-1) 512 o (w32 ((gI σ_12 513 o) + 4)) (w32 (r_13 - 4)) (fun r_15 σ_16 => rI r_15 → RK σ_16 →
  wp_House_putInt cf tv 512 o (gI σ_12 513 o) r_15 (fun σ_18 => RK σ_18 →
  Q σ_18) σ_16) σ_14) σ_12) σ
/-! House.keyOf(II)J -/
abbrev rm_House_keyOf : Room := { frames := 0, cells := 0, slots := 0, locals := 0 }
def wp_House_keyOf (cf : Cf) (tv : Nat → Int) (x0 : Int) (x1 : Int) (Q : Int → St → Prop) (σ : St) : Prop :=
  Q (w64 ((w64 (4 * x0)) + x1)) σ
/-! Row.putLongAt(IJ)LNandHouse$Row; -/
abbrev rm_Row_putLongAt : Room := { frames := 2, cells := 0, slots := 0, locals := 46 }
def wp_Row_putLongAt (cf : Cf) (tv : Nat → Int) (o : Int) (x1 : Int) (x2 : Int) (Q : St → Prop) (σ : St) : Prop :=
  wp_House_putLong cf tv 512 o (w32 ((w32 ((gI σ 513 o) + 24)) + x1)) x2 (fun σ_4 => RK σ_4 →
  Q σ_4) σ
/-! Row.isWhole(I)Z -/
abbrev rm_Row_isWhole : Room := { frames := 2, cells := 0, slots := 0, locals := 43 }
def wp_Row_isWhole (cf : Cf) (tv : Nat → Int) (o : Int) (x1 : Int) (Q : Int → St → Prop) (σ : St) : Prop :=
  wp_Row_length cf tv o (fun r_9 σ_10 => rI r_9 → RK σ_10 →
  (r_9 < 24 →
    Q 0 σ_10) ∧
  (¬ r_9 < 24 →
    (¬ (jrm r_9 8) = 0 →
      Q 0 σ_10) ∧
    ((jrm r_9 8) = 0 →
      (x1 < r_9 →
        Q 0 σ_10) ∧
      (¬ x1 < r_9 →
        wp_House_getInt cf tv 512 o (w32 ((gI σ_10 513 o) + 20)) (fun r_11 σ_12 => rI r_11 → RK σ_12 →
        (¬ r_11 = 1414677829 →
          Q 0 σ_12) ∧
        (r_11 = 1414677829 →
          wp_House_getInt cf tv 512 o (gI σ_12 513 o) (fun r_13 σ_14 => rI r_13 → RK σ_14 →
          wp_House_check cf tv (-1) 512 o (w32 ((gI σ_14 513 o) + 4)) (w32 (r_9 - 4)) (fun r_15 σ_16 => rI r_15 → RK σ_16 →
          (¬ r_13 = r_15 →
            Q 0 σ_16) ∧
          (r_13 = r_15 →
            Q 1 σ_16)) σ_14) σ_12)) σ_10)))) σ
/-! Row.type()I -/
abbrev rm_Row_type : Room := { frames := 0, cells := 0, slots := 0, locals := 0 }
def wp_Row_type (cf : Cf) (tv : Nat → Int) (o : Int) (Q : Int → St → Prop) (σ : St) : Prop :=
  ((0 : Int) ≤ w32 ((gI σ 513 o) + 16) ∧ w32 ((gI σ 513 o) + 16) < (rowL o)) ∧
  Q (gA σ 512 o (w32 ((gI σ 513 o) + 16))) σ
/-! Row.get(I)I -/
abbrev rm_Row_get : Room := { frames := 1, cells := 0, slots := 0, locals := 23 }
def wp_Row_get (cf : Cf) (tv : Nat → Int) (o : Int) (x1 : Int) (Q : Int → St → Prop) (σ : St) : Prop :=
  wp_House_getInt cf tv 512 o (w32 ((w32 ((gI σ 513 o) + 24)) + x1)) (fun r_3 σ_4 => rI r_3 → RK σ_4 →
  Q r_3 σ_4) σ
/-! Row.getLongAt(I)J -/
abbrev rm_Row_getLongAt : Room := { frames := 2, cells := 0, slots := 0, locals := 44 }
def wp_Row_getLongAt (cf : Cf) (tv : Nat → Int) (o : Int) (x1 : Int) (Q : Int → St → Prop) (σ : St) : Prop :=
  wp_House_getLong cf tv 512 o (w32 ((w32 ((gI σ 513 o) + 24)) + x1)) (fun r_3 σ_4 => rJ r_3 → RK σ_4 →
  Q r_3 σ_4) σ
/-! House.hash(J)J -/
def wp_House_hash_b43 (cf : Cf) (tv : Nat → Int) (x0 : Int) (Q : Int → St → Prop) (K4 : Int → Int → St → Prop) (y2 : Int) (y3 : Int) (σ : St) : Prop :=
  ∀ y3_10, y3_10 = w32 (y3 + 1) →
  K4 y2 y3_10 σ
def wp_House_hash_L4 (cf : Cf) (tv : Nat → Int) (x0 : Int) (Q : Int → St → Prop) (K4 : Int → Int → St → Prop) (y2 : Int) (y3 : Int) (σ : St) : Prop :=
  (8 ≤ y3 →
    Q (w64 ((iand y2 1023) * 1024)) σ) ∧
  (¬ 8 ≤ y3 →
    ∀ y4_11, y4_11 = iand (w32 (lushr x0 (w32 (8 * y3)))) 255 →
    (y4_11 = 0 →
      wp_House_hash_b43 cf tv x0 Q K4 y2 y3 σ) ∧
    (¬ y4_11 = 0 →
      ∀ y2_12, y2_12 = w32 ((w32 ((w32 (y2 + (ishl y4_11 4))) + (ishr y4_11 4))) * 11) →
      wp_House_hash_b43 cf tv x0 Q K4 y2_12 y3 σ))
abbrev rm_House_hash : Room := { frames := 0, cells := 0, slots := 0, locals := 0 }
def wp_House_hash (cf : Cf) (tv : Nat → Int) (x0 : Int) (Q : Int → St → Prop) (σ : St) : Prop :=
  lQ2 (wp_House_hash_L4 cf tv x0 Q) 0 0 σ
/-! Long.reverseBytes(J)J -/
abbrev rm_Long_reverseBytes : Room := { frames := 0, cells := 0, slots := 0, locals := 0 }
def wp_Long_reverseBytes (cf : Cf) (tv : Nat → Int) (x0 : Int) (Q : Int → St → Prop) (σ : St) : Prop :=
  ∀ y0_2, y0_2 = lor (lshl (land x0 71777214294589695) 8) (land (lushr x0 8) 71777214294589695) →
  Q (lor (lor (lor (lshl y0_2 48) (lshl (land y0_2 4294901760) 16)) (land (lushr y0_2 16) 4294901760)) (lushr y0_2 48)) σ
/-! Row.isLast()Z -/
abbrev rm_Row_isLast : Room := { frames := 0, cells := 0, slots := 0, locals := 0 }
def wp_Row_isLast (cf : Cf) (tv : Nat → Int) (o : Int) (Q : Int → St → Prop) (σ : St) : Prop :=
  ((0 : Int) ≤ w32 ((gI σ 513 o) + 17) ∧ w32 ((gI σ 513 o) + 17) < (rowL o)) ∧
  Q (if (gA σ 512 o (w32 ((gI σ 513 o) + 17))) = 1 then (1 : Int) else (0 : Int)) σ
/-! Row.serial()J -/
abbrev rm_Row_serial : Room := { frames := 2, cells := 0, slots := 0, locals := 44 }
def wp_Row_serial (cf : Cf) (tv : Nat → Int) (o : Int) (Q : Int → St → Prop) (σ : St) : Prop :=
  wp_House_getLong cf tv 512 o (w32 ((gI σ 513 o) + 8)) (fun r_3 σ_4 => rJ r_3 → RK σ_4 →
  Q r_3 σ_4) σ
