/-! Model.addNode(II)V -/
abbrev rm_Model_addNode : Room := { frames := 0, cells := 0, slots := 0, locals := 0 }
def wp_Model_addNode (cf : Cf) (tv : Nat → Int) (x1 : Int) (x2 : Int) (Q : St → Prop) (σ : St) : Prop :=
  ((0 : Int) ≤ x1 ∧ x1 < 2) ∧
  ∀ y3_7, y3_7 = w32 ((w32 (700 * x1)) + (gA σ 713 0 x1)) →
  ((0 : Int) ≤ x1 ∧ x1 < 2) ∧
  ((0 : Int) ≤ y3_7 ∧ y3_7 < 1400) ∧
  ∀ σ_8, σ_8 = sA σ 714 0 y3_7 (gA σ 712 0 x1) →
  ((0 : Int) ≤ y3_7 ∧ y3_7 < 1400) ∧
  ∀ σ_9, σ_9 = sA σ_8 715 0 y3_7 x2 →
  ((0 : Int) ≤ y3_7 ∧ y3_7 < 1400) ∧
  ∀ σ_10, σ_10 = sA σ_9 716 0 y3_7 0 →
  ((0 : Int) ≤ x1 ∧ x1 < 2) ∧
  ((0 : Int) ≤ x1 ∧ x1 < 2) ∧
  ∀ σ_11, σ_11 = sA σ_10 713 0 x1 (w32 ((gA σ_10 713 0 x1) + 1)) →
  ((0 : Int) ≤ x1 ∧ x1 < 2) ∧
  ((0 : Int) ≤ x1 ∧ x1 < 2) ∧
  ∀ σ_12, σ_12 = sA σ_11 712 0 x1 (w32 ((gA σ_11 712 0 x1) + 1)) →
  Q σ_12
/-! Model.letter(JI)I -/
abbrev rm_Model_letter : Room := { frames := 0, cells := 0, slots := 0, locals := 0 }
def wp_Model_letter (cf : Cf) (tv : Nat → Int) (x0 : Int) (x2 : Int) (Q : Int → St → Prop) (σ : St) : Prop :=
  Q (iand (w32 (lshr x0 (w32 (8 * x2)))) 255) σ
/-! Model.isName(J)Z -/
def wp_Model_isName_b67 (cf : Cf) (tv : Nat → Int) (x0 : Int) (Q : Int → St → Prop) (K72 : Int → Int → Int → St → Prop) (y2 : Int) (y4 : Int) (σ : St) : Prop :=
  K72 y2 y4 1 σ
def wp_Model_isName_b72 (cf : Cf) (tv : Nat → Int) (x0 : Int) (Q : Int → St → Prop) (K17 : Int → Int → Int → St → Prop) (y2 : Int) (y4 : Int) (t0 : Int) (σ : St) : Prop :=
  ∀ y4_13, y4_13 = w32 (y4 + 1) →
  K17 y2 t0 y4_13 σ
def wp_Model_isName_b52 (cf : Cf) (tv : Nat → Int) (x0 : Int) (Q : Int → St → Prop) (K57 : Int → Int → Int → Int → St → Prop) (y3 : Int) (y4 : Int) (y5 : Int) (σ : St) : Prop :=
  K57 y3 y4 y5 1 σ
def wp_Model_isName_b56 (cf : Cf) (tv : Nat → Int) (x0 : Int) (Q : Int → St → Prop) (K57 : Int → Int → Int → Int → St → Prop) (y3 : Int) (y4 : Int) (y5 : Int) (σ : St) : Prop :=
  K57 y3 y4 y5 0 σ
def wp_Model_isName_b57 (cf : Cf) (tv : Nat → Int) (x0 : Int) (Q : Int → St → Prop) (K17 : Int → Int → Int → St → Prop) (y3 : Int) (y4 : Int) (y5 : Int) (t0 : Int) (σ : St) : Prop :=
  (¬ y3 = 0 →
    wp_Model_isName_b67 cf tv x0 Q (wp_Model_isName_b72 cf tv x0 Q K17) t0 y4 σ) ∧
  (y3 = 0 →
    (¬ y5 = 0 →
      wp_Model_isName_b72 cf tv x0 Q K17 t0 y4 0 σ) ∧
    (y5 = 0 →
      wp_Model_isName_b67 cf tv x0 Q (wp_Model_isName_b72 cf tv x0 Q K17) t0 y4 σ))
def wp_Model_isName_L17 (cf : Cf) (tv : Nat → Int) (x0 : Int) (Q : Int → St → Prop) (K17 : Int → Int → Int → St → Prop) (y2 : Int) (y3 : Int) (y4 : Int) (σ : St) : Prop :=
  (8 ≤ y4 →
    Q y2 σ) ∧
  (¬ 8 ≤ y4 →
    wp_Model_letter cf tv x0 y4 (fun r_14 σ_15 => rI r_14 → RK σ_15 →
    (y2 = 0 →
      wp_Model_isName_b56 cf tv x0 Q (wp_Model_isName_b57 cf tv x0 Q K17) y3 y4 r_14 σ_15) ∧
    (¬ y2 = 0 →
      (r_14 = 47 →
        wp_Model_isName_b56 cf tv x0 Q (wp_Model_isName_b57 cf tv x0 Q K17) y3 y4 r_14 σ_15) ∧
      (¬ r_14 = 47 →
        (r_14 = 0 →
          wp_Model_isName_b52 cf tv x0 Q (wp_Model_isName_b57 cf tv x0 Q K17) y3 y4 r_14 σ_15) ∧
        (¬ r_14 = 0 →
          (¬ y3 = 0 →
            wp_Model_isName_b56 cf tv x0 Q (wp_Model_isName_b57 cf tv x0 Q K17) y3 y4 r_14 σ_15) ∧
          (y3 = 0 →
            wp_Model_isName_b52 cf tv x0 Q (wp_Model_isName_b57 cf tv x0 Q K17) y3 y4 r_14 σ_15))))) σ)
abbrev rm_Model_isName : Room := { frames := 1, cells := 0, slots := 0, locals := 22 }
def wp_Model_isName (cf : Cf) (tv : Nat → Int) (x0 : Int) (Q : Int → St → Prop) (σ : St) : Prop :=
  ∀ y2_16, y2_16 = (if x0 = 0 then (0 : Int) else (1 : Int)) →
  lQ3 (wp_Model_isName_L17 cf tv x0 Q) y2_16 0 0 σ
/-! Model.nodeOf(II)I -/
def wp_Model_nodeOf_b43 (cf : Cf) (tv : Nat → Int) (x1 : Int) (x2 : Int) (Q : Int → St → Prop) (K9 : Int → Int → St → Prop) (y4 : Int) (t0 : Int) (σ : St) : Prop :=
  ∀ y4_5, y4_5 = w32 (y4 + 1) →
  K9 t0 y4_5 σ
def wp_Model_nodeOf_L9 (cf : Cf) (tv : Nat → Int) (x1 : Int) (x2 : Int) (Q : Int → St → Prop) (K9 : Int → Int → St → Prop) (y3 : Int) (y4 : Int) (σ : St) : Prop :=
  ((0 : Int) ≤ x1 ∧ x1 < 2) ∧
  ((w32 ((w32 (700 * x1)) + (gA σ 713 0 x1))) ≤ y4 →
    Q y3 σ) ∧
  (¬ (w32 ((w32 (700 * x1)) + (gA σ 713 0 x1))) ≤ y4 →
    ((0 : Int) ≤ y4 ∧ y4 < 1400) ∧
    (¬ (gA σ 714 0 y4) = x2 →
      wp_Model_nodeOf_b43 cf tv x1 x2 Q K9 y4 y3 σ) ∧
    ((gA σ 714 0 y4) = x2 →
      wp_Model_nodeOf_b43 cf tv x1 x2 Q K9 y4 y4 σ))
abbrev rm_Model_nodeOf : Room := { frames := 0, cells := 0, slots := 0, locals := 0 }
def wp_Model_nodeOf (cf : Cf) (tv : Nat → Int) (x1 : Int) (x2 : Int) (Q : Int → St → Prop) (σ : St) : Prop :=
  ∀ y4_6, y4_6 = w32 (700 * x1) →
  lQ2 (wp_Model_nodeOf_L9 cf tv x1 x2 Q) (-1) y4_6 σ
/-! Model.askDirectory(I)I -/
abbrev rm_Model_askDirectory : Room := { frames := 1, cells := 0, slots := 0, locals := 24 }
def wp_Model_askDirectory (cf : Cf) (tv : Nat → Int) (x1 : Int) (Q : Int → St → Prop) (σ : St) : Prop :=
  wp_Model_nodeOf cf tv 0 x1 (fun r_3 σ_4 => rI r_3 → RK σ_4 →
  (¬ r_3 = (-1) →
    ((0 : Int) ≤ r_3 ∧ r_3 < 1400) ∧
    (¬ (gA σ_4 715 0 r_3) = 1 →
      Q (-6) σ_4) ∧
    ((gA σ_4 715 0 r_3) = 1 →
      Q 0 σ_4)) ∧
  (r_3 = (-1) →
    Q (-4) σ_4)) σ
/-! Model.entryOf(IIJ)I -/
def wp_Model_entryOf_b57 (cf : Cf) (tv : Nat → Int) (x1 : Int) (x2 : Int) (x3 : Int) (Q : Int → St → Prop) (K10 : Int → Int → St → Prop) (y6 : Int) (t0 : Int) (σ : St) : Prop :=
  ∀ y6_7, y6_7 = w32 (y6 + 1) →
  K10 t0 y6_7 σ
def wp_Model_entryOf_b55 (cf : Cf) (tv : Nat → Int) (x1 : Int) (x2 : Int) (x3 : Int) (Q : Int → St → Prop) (K57 : Int → Int → St → Prop) (y5 : Int) (y6 : Int) (σ : St) : Prop :=
  K57 y6 y5 σ
def wp_Model_entryOf_L10 (cf : Cf) (tv : Nat → Int) (x1 : Int) (x2 : Int) (x3 : Int) (Q : Int → St → Prop) (K10 : Int → Int → St → Prop) (y5 : Int) (y6 : Int) (σ : St) : Prop :=
  ((0 : Int) ≤ x1 ∧ x1 < 2) ∧
  ((w32 ((w32 (700 * x1)) + (gA σ 717 0 x1))) ≤ y6 →
    Q y5 σ) ∧
  (¬ (w32 ((w32 (700 * x1)) + (gA σ 717 0 x1))) ≤ y6 →
    ((0 : Int) ≤ y6 ∧ y6 < 1400) ∧
    (¬ (gA σ 718 0 y6) = x2 →
      wp_Model_entryOf_b55 cf tv x1 x2 x3 Q (wp_Model_entryOf_b57 cf tv x1 x2 x3 Q K10) y5 y6 σ) ∧
    ((gA σ 718 0 y6) = x2 →
      ((0 : Int) ≤ y6 ∧ y6 < 1400) ∧
      (¬ (gA σ 719 0 y6) = x3 →
        wp_Model_entryOf_b55 cf tv x1 x2 x3 Q (wp_Model_entryOf_b57 cf tv x1 x2 x3 Q K10) y5 y6 σ) ∧
      ((gA σ 719 0 y6) = x3 →
        wp_Model_entryOf_b57 cf tv x1 x2 x3 Q K10 y6 y6 σ)))
abbrev rm_Model_entryOf : Room := { frames := 0, cells := 0, slots := 0, locals := 0 }
def wp_Model_entryOf (cf : Cf) (tv : Nat → Int) (x1 : Int) (x2 : Int) (x3 : Int) (Q : Int → St → Prop) (σ : St) : Prop :=
  ∀ y6_8, y6_8 = w32 (700 * x1) →
  lQ2 (wp_Model_entryOf_L10 cf tv x1 x2 x3 Q) (-1) y6_8 σ
/-! Model.eights(I)I -/
abbrev rm_Model_eights : Room := { frames := 0, cells := 0, slots := 0, locals := 0 }
def wp_Model_eights (cf : Cf) (tv : Nat → Int) (x0 : Int) (Q : Int → St → Prop) (σ : St) : Prop :=
  Q (w32 ((jdv (w32 (x0 + 7)) 8) * 8)) σ
/-! Model.live()I -/
def wp_Model_live_L27 (cf : Cf) (tv : Nat → Int) (Q : Int → St → Prop) (K27 : Int → Int → St → Prop) (y1 : Int) (y2 : Int) (σ : St) : Prop :=
  ((0 : Int) ≤ (0 : Int) ∧ (0 : Int) < 2) ∧
  ((gA σ 725 0 0) ≤ y2 →
    Q y1 σ) ∧
  (¬ (gA σ 725 0 0) ≤ y2 →
    ((0 : Int) ≤ y2 ∧ y2 < 1440) ∧
    wp_Model_eights cf tv (gA σ 728 0 y2) (fun r_11 σ_12 => rI r_11 → RK σ_12 →
    ∀ y1_13, y1_13 = w32 (y1 + (w32 (224 + r_11))) →
    ∀ y2_14, y2_14 = w32 (y2 + 1) →
    K27 y1_13 y2_14 σ_12) σ)
abbrev rm_Model_live : Room := { frames := 1, cells := 0, slots := 0, locals := 20 }
def wp_Model_live (cf : Cf) (tv : Nat → Int) (Q : Int → St → Prop) (σ : St) : Prop :=
  ((0 : Int) ≤ (0 : Int) ∧ (0 : Int) < 2) ∧
  ((0 : Int) ≤ (0 : Int) ∧ (0 : Int) < 2) ∧
  ((0 : Int) ≤ (0 : Int) ∧ (0 : Int) < 2) ∧
  ∀ y1_15, y1_15 = w32 (240 * (w32 ((w32 ((gA σ 713 0 0) + (gA σ 717 0 0))) + (gA σ 721 0 0)))) →
  lQ2 (wp_Model_live_L27 cf tv Q) y1_15 0 σ
/-! Model.group(III)I -/
abbrev rm_Model_group : Room := { frames := 0, cells := 0, slots := 0, locals := 0 }
def wp_Model_group (cf : Cf) (tv : Nat → Int) (x1 : Int) (x2 : Int) (x3 : Int) (Q : Int → St → Prop) (σ : St) : Prop :=
  ((0 : Int) ≤ gI σ 730 0 ∧ gI σ 730 0 < 8) ∧
  ∀ σ_5, σ_5 = sA σ 732 0 (gI σ 730 0) x1 →
  ((0 : Int) ≤ gI σ_5 730 0 ∧ gI σ_5 730 0 < 8) ∧
  ∀ σ_6, σ_6 = sA σ_5 733 0 (gI σ_5 730 0) x2 →
  ((0 : Int) ≤ gI σ_6 730 0 ∧ gI σ_6 730 0 < 8) ∧
  ∀ σ_7, σ_7 = sA σ_6 734 0 (gI σ_6 730 0) x3 →
  ((0 : Int) ≤ gI σ_7 730 0 ∧ gI σ_7 730 0 < 8) ∧
  ∀ σ_8, σ_8 = sA σ_7 737 0 (gI σ_7 730 0) 0 →
  Q (gI σ_8 730 0) σ_8
/-! Model.addEntry(IIJI)V -/
abbrev rm_Model_addEntry : Room := { frames := 0, cells := 0, slots := 0, locals := 0 }
def wp_Model_addEntry (cf : Cf) (tv : Nat → Int) (x1 : Int) (x2 : Int) (x3 : Int) (x5 : Int) (Q : St → Prop) (σ : St) : Prop :=
  ((0 : Int) ≤ x1 ∧ x1 < 2) ∧
  ∀ y6_6, y6_6 = w32 ((w32 (700 * x1)) + (gA σ 717 0 x1)) →
  ((0 : Int) ≤ y6_6 ∧ y6_6 < 1400) ∧
  ∀ σ_7, σ_7 = sA σ 718 0 y6_6 x2 →
  ((0 : Int) ≤ y6_6 ∧ y6_6 < 1400) ∧
  ∀ σ_8, σ_8 = sA σ_7 719 0 y6_6 x3 →
  ((0 : Int) ≤ y6_6 ∧ y6_6 < 1400) ∧
  ∀ σ_9, σ_9 = sA σ_8 720 0 y6_6 x5 →
  ((0 : Int) ≤ x1 ∧ x1 < 2) ∧
  ((0 : Int) ≤ x1 ∧ x1 < 2) ∧
  ∀ σ_10, σ_10 = sA σ_9 717 0 x1 (w32 ((gA σ_9 717 0 x1) + 1)) →
  Q σ_10
/-! Model.pieceOf(III)I -/
def wp_Model_pieceOf_b56 (cf : Cf) (tv : Nat → Int) (x1 : Int) (x2 : Int) (x3 : Int) (Q : Int → St → Prop) (K10 : Int → Int → St → Prop) (y5 : Int) (t0 : Int) (σ : St) : Prop :=
  ∀ y5_7, y5_7 = w32 (y5 + 1) →
  K10 t0 y5_7 σ
def wp_Model_pieceOf_b54 (cf : Cf) (tv : Nat → Int) (x1 : Int) (x2 : Int) (x3 : Int) (Q : Int → St → Prop) (K56 : Int → Int → St → Prop) (y4 : Int) (y5 : Int) (σ : St) : Prop :=
  K56 y5 y4 σ
def wp_Model_pieceOf_L10 (cf : Cf) (tv : Nat → Int) (x1 : Int) (x2 : Int) (x3 : Int) (Q : Int → St → Prop) (K10 : Int → Int → St → Prop) (y4 : Int) (y5 : Int) (σ : St) : Prop :=
  ((0 : Int) ≤ x1 ∧ x1 < 2) ∧
  ((w32 ((w32 (720 * x1)) + (gA σ 725 0 x1))) ≤ y5 →
    Q y4 σ) ∧
  (¬ (w32 ((w32 (720 * x1)) + (gA σ 725 0 x1))) ≤ y5 →
    ((0 : Int) ≤ y5 ∧ y5 < 1440) ∧
    (¬ (gA σ 726 0 y5) = x2 →
      wp_Model_pieceOf_b54 cf tv x1 x2 x3 Q (wp_Model_pieceOf_b56 cf tv x1 x2 x3 Q K10) y4 y5 σ) ∧
    ((gA σ 726 0 y5) = x2 →
      ((0 : Int) ≤ y5 ∧ y5 < 1440) ∧
      (¬ (gA σ 727 0 y5) = x3 →
        wp_Model_pieceOf_b54 cf tv x1 x2 x3 Q (wp_Model_pieceOf_b56 cf tv x1 x2 x3 Q K10) y4 y5 σ) ∧
      ((gA σ 727 0 y5) = x3 →
        wp_Model_pieceOf_b56 cf tv x1 x2 x3 Q K10 y5 y5 σ)))
abbrev rm_Model_pieceOf : Room := { frames := 0, cells := 0, slots := 0, locals := 0 }
def wp_Model_pieceOf (cf : Cf) (tv : Nat → Int) (x1 : Int) (x2 : Int) (x3 : Int) (Q : Int → St → Prop) (σ : St) : Prop :=
  ∀ y5_8, y5_8 = w32 (720 * x1) →
  lQ2 (wp_Model_pieceOf_L10 cf tv x1 x2 x3 Q) (-1) y5_8 σ
/-! Model.setPiece(IIIIII)V -/
def wp_Model_setPiece_L67 (cf : Cf) (tv : Nat → Int) (x1 : Int) (x2 : Int) (x3 : Int) (x4 : Int) (x5 : Int) (x6 : Int) (Q : St → Prop) (K67 : Int → Int → St → Prop) (y7 : Int) (y8 : Int) (σ : St) : Prop :=
  (64 ≤ y8 →
    wp_Model_nodeOf cf tv x1 x2 (fun r_25 σ_26 => rI r_25 → RK σ_26 →
    ((0 : Int) ≤ r_25 ∧ r_25 < 1400) ∧
    ∀ σ_27, σ_27 = sA σ_26 716 0 r_25 x5 →
    Q σ_27) σ) ∧
  (¬ 64 ≤ y8 →
    ((0 : Int) ≤ w32 ((w32 (64 * x6)) + y8) ∧ w32 ((w32 (64 * x6)) + y8) < 512) ∧
    ((0 : Int) ≤ w32 ((w32 (64 * y7)) + y8) ∧ w32 ((w32 (64 * y7)) + y8) < 92160) ∧
    ∀ σ_28, σ_28 = sA σ 729 0 (w32 ((w32 (64 * y7)) + y8)) (gA σ 740 0 (w32 ((w32 (64 * x6)) + y8))) →
    ∀ y8_29, y8_29 = w32 (y8 + 1) →
    K67 y7 y8_29 σ_28)
def wp_Model_setPiece_b55 (cf : Cf) (tv : Nat → Int) (x1 : Int) (x2 : Int) (x3 : Int) (x4 : Int) (x5 : Int) (x6 : Int) (Q : St → Prop) (y7 : Int) (σ : St) : Prop :=
  ((0 : Int) ≤ y7 ∧ y7 < 1440) ∧
  ∀ σ_30, σ_30 = sA σ 728 0 y7 x4 →
  lQ2 (wp_Model_setPiece_L67 cf tv x1 x2 x3 x4 x5 x6 Q) y7 0 σ_30
abbrev rm_Model_setPiece : Room := { frames := 1, cells := 0, slots := 0, locals := 25 }
def wp_Model_setPiece (cf : Cf) (tv : Nat → Int) (x1 : Int) (x2 : Int) (x3 : Int) (x4 : Int) (x5 : Int) (x6 : Int) (Q : St → Prop) (σ : St) : Prop :=
  wp_Model_pieceOf cf tv x1 x2 x3 (fun r_31 σ_32 => rI r_31 → RK σ_32 →
  (¬ r_31 = (-1) →
    wp_Model_setPiece_b55 cf tv x1 x2 x3 x4 x5 x6 Q r_31 σ_32) ∧
  (r_31 = (-1) →
    ((0 : Int) ≤ x1 ∧ x1 < 2) ∧
    ∀ y7_33, y7_33 = w32 ((w32 (720 * x1)) + (gA σ_32 725 0 x1)) →
    ((0 : Int) ≤ y7_33 ∧ y7_33 < 1440) ∧
    ∀ σ_34, σ_34 = sA σ_32 726 0 y7_33 x2 →
    ((0 : Int) ≤ y7_33 ∧ y7_33 < 1440) ∧
    ∀ σ_35, σ_35 = sA σ_34 727 0 y7_33 x3 →
    ((0 : Int) ≤ x1 ∧ x1 < 2) ∧
    ((0 : Int) ≤ x1 ∧ x1 < 2) ∧
    ∀ σ_36, σ_36 = sA σ_35 725 0 x1 (w32 ((gA σ_35 725 0 x1) + 1)) →
    wp_Model_setPiece_b55 cf tv x1 x2 x3 x4 x5 x6 Q y7_33 σ_36)) σ
/-! Model.dropEntry(II)V -/
abbrev rm_Model_dropEntry : Room := { frames := 0, cells := 0, slots := 0, locals := 0 }
def wp_Model_dropEntry (cf : Cf) (tv : Nat → Int) (x1 : Int) (x2 : Int) (Q : St → Prop) (σ : St) : Prop :=
  ((0 : Int) ≤ x1 ∧ x1 < 2) ∧
  ((0 : Int) ≤ x1 ∧ x1 < 2) ∧
  ∀ σ_6, σ_6 = sA σ 717 0 x1 (w32 ((gA σ 717 0 x1) - 1)) →
  ((0 : Int) ≤ x1 ∧ x1 < 2) ∧
  ∀ y3_7, y3_7 = w32 ((w32 (700 * x1)) + (gA σ_6 717 0 x1)) →
  ((0 : Int) ≤ y3_7 ∧ y3_7 < 1400) ∧
  ((0 : Int) ≤ x2 ∧ x2 < 1400) ∧
  ∀ σ_8, σ_8 = sA σ_6 718 0 x2 (gA σ_6 718 0 y3_7) →
  ((0 : Int) ≤ y3_7 ∧ y3_7 < 1400) ∧
  ((0 : Int) ≤ x2 ∧ x2 < 1400) ∧
  ∀ σ_9, σ_9 = sA σ_8 719 0 x2 (gA σ_8 719 0 y3_7) →
  ((0 : Int) ≤ y3_7 ∧ y3_7 < 1400) ∧
  ((0 : Int) ≤ x2 ∧ x2 < 1400) ∧
  ∀ σ_10, σ_10 = sA σ_9 720 0 x2 (gA σ_9 720 0 y3_7) →
  Q σ_10
/-! Model.dropPieces(III)V -/
def wp_Model_dropPieces_L115 (cf : Cf) (tv : Nat → Int) (x1 : Int) (x2 : Int) (x3 : Int) (Q : St → Prop) (K7 : Int → St → Prop) (K115 : Int → Int → Int → St → Prop) (y4 : Int) (y5 : Int) (y6 : Int) (σ : St) : Prop :=
  (64 ≤ y6 →
    K7 y4 σ) ∧
  (¬ 64 ≤ y6 →
    ((0 : Int) ≤ w32 ((w32 (64 * y5)) + y6) ∧ w32 ((w32 (64 * y5)) + y6) < 92160) ∧
    ((0 : Int) ≤ w32 ((w32 (64 * y4)) + y6) ∧ w32 ((w32 (64 * y4)) + y6) < 92160) ∧
    ∀ σ_19, σ_19 = sA σ 729 0 (w32 ((w32 (64 * y4)) + y6)) (gA σ 729 0 (w32 ((w32 (64 * y5)) + y6))) →
    ∀ y6_20, y6_20 = w32 (y6 + 1) →
    K115 y4 y5 y6_20 σ_19)
def wp_Model_dropPieces_b157 (cf : Cf) (tv : Nat → Int) (x1 : Int) (x2 : Int) (x3 : Int) (Q : St → Prop) (K7 : Int → St → Prop) (y4 : Int) (σ : St) : Prop :=
  ∀ y4_21, y4_21 = w32 (y4 + 1) →
  K7 y4_21 σ
def wp_Model_dropPieces_L7 (cf : Cf) (tv : Nat → Int) (x1 : Int) (x2 : Int) (x3 : Int) (Q : St → Prop) (K7 : Int → St → Prop) (y4 : Int) (σ : St) : Prop :=
  ((0 : Int) ≤ x1 ∧ x1 < 2) ∧
  ((w32 ((w32 (720 * x1)) + (gA σ 725 0 x1))) ≤ y4 →
    Q σ) ∧
  (¬ (w32 ((w32 (720 * x1)) + (gA σ 725 0 x1))) ≤ y4 →
    ((0 : Int) ≤ y4 ∧ y4 < 1440) ∧
    (¬ (gA σ 726 0 y4) = x2 →
      wp_Model_dropPieces_b157 cf tv x1 x2 x3 Q K7 y4 σ) ∧
    ((gA σ 726 0 y4) = x2 →
      ((0 : Int) ≤ y4 ∧ y4 < 1440) ∧
      ((gA σ 727 0 y4) < x3 →
        wp_Model_dropPieces_b157 cf tv x1 x2 x3 Q K7 y4 σ) ∧
      (¬ (gA σ 727 0 y4) < x3 →
        ((0 : Int) ≤ x1 ∧ x1 < 2) ∧
        ((0 : Int) ≤ x1 ∧ x1 < 2) ∧
        ∀ σ_22, σ_22 = sA σ 725 0 x1 (w32 ((gA σ 725 0 x1) - 1)) →
        ((0 : Int) ≤ x1 ∧ x1 < 2) ∧
        ∀ y5_23, y5_23 = w32 ((w32 (720 * x1)) + (gA σ_22 725 0 x1)) →
        ((0 : Int) ≤ y5_23 ∧ y5_23 < 1440) ∧
        ((0 : Int) ≤ y4 ∧ y4 < 1440) ∧
        ∀ σ_24, σ_24 = sA σ_22 726 0 y4 (gA σ_22 726 0 y5_23) →
        ((0 : Int) ≤ y5_23 ∧ y5_23 < 1440) ∧
        ((0 : Int) ≤ y4 ∧ y4 < 1440) ∧
        ∀ σ_25, σ_25 = sA σ_24 727 0 y4 (gA σ_24 727 0 y5_23) →
        ((0 : Int) ≤ y5_23 ∧ y5_23 < 1440) ∧
        ((0 : Int) ≤ y4 ∧ y4 < 1440) ∧
        ∀ σ_26, σ_26 = sA σ_25 728 0 y4 (gA σ_25 728 0 y5_23) →
        lQ3 (wp_Model_dropPieces_L115 cf tv x1 x2 x3 Q K7) y4 y5_23 0 σ_26)))
abbrev rm_Model_dropPieces : Room := { frames := 0, cells := 0, slots := 0, locals := 0 }
def wp_Model_dropPieces (cf : Cf) (tv : Nat → Int) (x1 : Int) (x2 : Int) (x3 : Int) (Q : St → Prop) (σ : St) : Prop :=
  ∀ y4_27, y4_27 = w32 (720 * x1) →
  lQ1 (wp_Model_dropPieces_L7 cf tv x1 x2 x3 Q) y4_27 σ
/-! Model.dropAttribute(II)V -/
abbrev rm_Model_dropAttribute : Room := { frames := 0, cells := 0, slots := 0, locals := 0 }
def wp_Model_dropAttribute (cf : Cf) (tv : Nat → Int) (x1 : Int) (x2 : Int) (Q : St → Prop) (σ : St) : Prop :=
  ((0 : Int) ≤ x1 ∧ x1 < 2) ∧
  ((0 : Int) ≤ x1 ∧ x1 < 2) ∧
  ∀ σ_6, σ_6 = sA σ 721 0 x1 (w32 ((gA σ 721 0 x1) - 1)) →
  ((0 : Int) ≤ x1 ∧ x1 < 2) ∧
  ∀ y3_7, y3_7 = w32 ((w32 (700 * x1)) + (gA σ_6 721 0 x1)) →
  ((0 : Int) ≤ y3_7 ∧ y3_7 < 1400) ∧
  ((0 : Int) ≤ x2 ∧ x2 < 1400) ∧
  ∀ σ_8, σ_8 = sA σ_6 722 0 x2 (gA σ_6 722 0 y3_7) →
  ((0 : Int) ≤ y3_7 ∧ y3_7 < 1400) ∧
  ((0 : Int) ≤ x2 ∧ x2 < 1400) ∧
  ∀ σ_9, σ_9 = sA σ_8 723 0 x2 (gA σ_8 723 0 y3_7) →
  ((0 : Int) ≤ y3_7 ∧ y3_7 < 1400) ∧
  ((0 : Int) ≤ x2 ∧ x2 < 1400) ∧
  ∀ σ_10, σ_10 = sA σ_9 724 0 x2 (gA σ_9 724 0 y3_7) →
  Q σ_10
/-! Model.dropNode(II)V -/
def wp_Model_dropNode_L21 (cf : Cf) (tv : Nat → Int) (x1 : Int) (x2 : Int) (Q : St → Prop) (K21 : Int → Int → St → Prop) (y3 : Int) (y4 : Int) (σ : St) : Prop :=
  ((0 : Int) ≤ x1 ∧ x1 < 2) ∧
  ((w32 ((w32 (700 * x1)) + (gA σ 721 0 x1))) ≤ y4 →
    ((0 : Int) ≤ x1 ∧ x1 < 2) ∧
    ((0 : Int) ≤ x1 ∧ x1 < 2) ∧
    ∀ σ_14, σ_14 = sA σ 713 0 x1 (w32 ((gA σ 713 0 x1) - 1)) →
    ((0 : Int) ≤ x1 ∧ x1 < 2) ∧
    ∀ y5_15, y5_15 = w32 ((w32 (700 * x1)) + (gA σ_14 713 0 x1)) →
    ((0 : Int) ≤ y5_15 ∧ y5_15 < 1400) ∧
    ((0 : Int) ≤ y3 ∧ y3 < 1400) ∧
    ∀ σ_16, σ_16 = sA σ_14 714 0 y3 (gA σ_14 714 0 y5_15) →
    ((0 : Int) ≤ y5_15 ∧ y5_15 < 1400) ∧
    ((0 : Int) ≤ y3 ∧ y3 < 1400) ∧
    ∀ σ_17, σ_17 = sA σ_16 715 0 y3 (gA σ_16 715 0 y5_15) →
    ((0 : Int) ≤ y5_15 ∧ y5_15 < 1400) ∧
    ((0 : Int) ≤ y3 ∧ y3 < 1400) ∧
    ∀ σ_18, σ_18 = sA σ_17 716 0 y3 (gA σ_17 716 0 y5_15) →
    Q σ_18) ∧
  (¬ (w32 ((w32 (700 * x1)) + (gA σ 721 0 x1))) ≤ y4 →
    ((0 : Int) ≤ y4 ∧ y4 < 1400) ∧
    (¬ (gA σ 722 0 y4) = x2 →
      ∀ y4_19, y4_19 = w32 (y4 + 1) →
      K21 y3 y4_19 σ) ∧
    ((gA σ 722 0 y4) = x2 →
      wp_Model_dropAttribute cf tv x1 y4 (fun σ_21 => RK σ_21 →
      K21 y3 y4 σ_21) σ))
abbrev rm_Model_dropNode : Room := { frames := 1, cells := 0, slots := 0, locals := 26 }
def wp_Model_dropNode (cf : Cf) (tv : Nat → Int) (x1 : Int) (x2 : Int) (Q : St → Prop) (σ : St) : Prop :=
  wp_Model_nodeOf cf tv x1 x2 (fun r_22 σ_23 => rI r_22 → RK σ_23 →
  wp_Model_dropPieces cf tv x1 x2 0 (fun σ_25 => RK σ_25 →
  ∀ y4_26, y4_26 = w32 (700 * x1) →
  lQ2 (wp_Model_dropNode_L21 cf tv x1 x2 Q) r_22 y4_26 σ_25) σ_23) σ
/-! Model.moveEntry(II)V -/
def wp_Model_moveEntry_b53 (cf : Cf) (tv : Nat → Int) (x1 : Int) (x2 : Int) (Q : St → Prop) (σ : St) : Prop :=
  ((0 : Int) ≤ x2 ∧ x2 < 8) ∧
  ((0 : Int) ≤ x2 ∧ x2 < 8) ∧
  wp_Model_entryOf cf tv x1 (gA σ 733 0 x2) (gA σ 738 0 x2) (fun r_12 σ_13 => rI r_12 → RK σ_13 →
  ((0 : Int) ≤ x2 ∧ x2 < 8) ∧
  ((0 : Int) ≤ r_12 ∧ r_12 < 1400) ∧
  ∀ σ_14, σ_14 = sA σ_13 718 0 r_12 (gA σ_13 734 0 x2) →
  ((0 : Int) ≤ x2 ∧ x2 < 8) ∧
  ((0 : Int) ≤ r_12 ∧ r_12 < 1400) ∧
  ∀ σ_15, σ_15 = sA σ_14 719 0 r_12 (gA σ_14 739 0 x2) →
  Q σ_15) σ
abbrev rm_Model_moveEntry : Room := { frames := 2, cells := 0, slots := 0, locals := 51 }
def wp_Model_moveEntry (cf : Cf) (tv : Nat → Int) (x1 : Int) (x2 : Int) (Q : St → Prop) (σ : St) : Prop :=
  ((0 : Int) ≤ x2 ∧ x2 < 8) ∧
  ((0 : Int) ≤ x2 ∧ x2 < 8) ∧
  wp_Model_entryOf cf tv x1 (gA σ 734 0 x2) (gA σ 739 0 x2) (fun r_16 σ_17 => rI r_16 → RK σ_17 →
  (r_16 = (-1) →
    wp_Model_moveEntry_b53 cf tv x1 x2 Q σ_17) ∧
  (¬ r_16 = (-1) →
    ((0 : Int) ≤ r_16 ∧ r_16 < 1400) ∧
    ∀ y4_18, y4_18 = gA σ_17 720 0 r_16 →
    wp_Model_dropEntry cf tv x1 r_16 (fun σ_20 => RK σ_20 →
    ((0 : Int) ≤ x2 ∧ x2 < 8) ∧
    ((gA σ_20 737 0 x2) = 0 →
      wp_Model_moveEntry_b53 cf tv x1 x2 Q σ_20) ∧
    (¬ (gA σ_20 737 0 x2) = 0 →
      wp_Model_dropNode cf tv x1 y4_18 (fun σ_22 => RK σ_22 →
      wp_Model_moveEntry_b53 cf tv x1 x2 Q σ_22) σ_20)) σ_17)) σ
/-! Model.cutTo(III)V -/
def wp_Model_cutTo_b120 (cf : Cf) (tv : Nat → Int) (x1 : Int) (x2 : Int) (x3 : Int) (Q : St → Prop) (y4 : Int) (σ : St) : Prop :=
  ((0 : Int) ≤ y4 ∧ y4 < 1400) ∧
  ∀ σ_12, σ_12 = sA σ 716 0 y4 x3 →
  Q σ_12
def wp_Model_cutTo_L93 (cf : Cf) (tv : Nat → Int) (x1 : Int) (x2 : Int) (x3 : Int) (Q : St → Prop) (K120 : Int → St → Prop) (K93 : Int → Int → Int → St → Prop) (y4 : Int) (y5 : Int) (y6 : Int) (σ : St) : Prop :=
  (64 ≤ y6 →
    K120 y4 σ) ∧
  (¬ 64 ≤ y6 →
    ((0 : Int) ≤ w32 ((w32 (64 * y5)) + y6) ∧ w32 ((w32 (64 * y5)) + y6) < 92160) ∧
    ∀ σ_13, σ_13 = sA σ 729 0 (w32 ((w32 (64 * y5)) + y6)) 0 →
    ∀ y6_14, y6_14 = w32 (y6 + 1) →
    K93 y4 y5 y6_14 σ_13)
abbrev rm_Model_cutTo : Room := { frames := 1, cells := 0, slots := 0, locals := 26 }
def wp_Model_cutTo (cf : Cf) (tv : Nat → Int) (x1 : Int) (x2 : Int) (x3 : Int) (Q : St → Prop) (σ : St) : Prop :=
  wp_Model_nodeOf cf tv x1 x2 (fun r_15 σ_16 => rI r_15 → RK σ_16 →
  ((0 : Int) ≤ r_15 ∧ r_15 < 1400) ∧
  ((gA σ_16 716 0 r_15) ≤ x3 →
    wp_Model_cutTo_b120 cf tv x1 x2 x3 Q r_15 σ_16) ∧
  (¬ (gA σ_16 716 0 r_15) ≤ x3 →
    wp_Model_dropPieces cf tv x1 x2 (jdv (w32 ((w32 (x3 + 64)) - 1)) 64) (fun σ_18 => RK σ_18 →
    wp_Model_pieceOf cf tv x1 x2 (jdv x3 64) (fun r_19 σ_20 => rI r_19 → RK σ_20 →
    (r_19 = (-1) →
      wp_Model_cutTo_b120 cf tv x1 x2 x3 Q r_15 σ_20) ∧
    (¬ r_19 = (-1) →
      ((jrm x3 64) ≤ 0 →
        wp_Model_cutTo_b120 cf tv x1 x2 x3 Q r_15 σ_20) ∧
      (¬ (jrm x3 64) ≤ 0 →
        ((0 : Int) ≤ r_19 ∧ r_19 < 1440) ∧
        ((gA σ_20 728 0 r_19) ≤ (jrm x3 64) →
          wp_Model_cutTo_b120 cf tv x1 x2 x3 Q r_15 σ_20) ∧
        (¬ (gA σ_20 728 0 r_19) ≤ (jrm x3 64) →
          ((0 : Int) ≤ r_19 ∧ r_19 < 1440) ∧
          ∀ σ_21, σ_21 = sA σ_20 728 0 r_19 (jrm x3 64) →
          ((0 : Int) ≤ r_19 ∧ r_19 < 1440) ∧
          ∀ y6_22, y6_22 = gA σ_21 728 0 r_19 →
          lQ3 (wp_Model_cutTo_L93 cf tv x1 x2 x3 Q (wp_Model_cutTo_b120 cf tv x1 x2 x3 Q)) r_15 r_19 y6_22 σ_21)))) σ_18) σ_16)) σ
/-! Model.swapEntries(II)V -/
abbrev rm_Model_swapEntries : Room := { frames := 1, cells := 0, slots := 0, locals := 26 }
def wp_Model_swapEntries (cf : Cf) (tv : Nat → Int) (x1 : Int) (x2 : Int) (Q : St → Prop) (σ : St) : Prop :=
  ((0 : Int) ≤ x2 ∧ x2 < 8) ∧
  ((0 : Int) ≤ x2 ∧ x2 < 8) ∧
  wp_Model_entryOf cf tv x1 (gA σ 733 0 x2) (gA σ 738 0 x2) (fun r_8 σ_9 => rI r_8 → RK σ_9 →
  ((0 : Int) ≤ x2 ∧ x2 < 8) ∧
  ((0 : Int) ≤ x2 ∧ x2 < 8) ∧
  wp_Model_entryOf cf tv x1 (gA σ_9 734 0 x2) (gA σ_9 739 0 x2) (fun r_10 σ_11 => rI r_10 → RK σ_11 →
  ((0 : Int) ≤ r_8 ∧ r_8 < 1400) ∧
  ∀ y5_12, y5_12 = gA σ_11 720 0 r_8 →
  ((0 : Int) ≤ r_10 ∧ r_10 < 1400) ∧
  ((0 : Int) ≤ r_8 ∧ r_8 < 1400) ∧
  ∀ σ_13, σ_13 = sA σ_11 720 0 r_8 (gA σ_11 720 0 r_10) →
  ((0 : Int) ≤ r_10 ∧ r_10 < 1400) ∧
  ∀ σ_14, σ_14 = sA σ_13 720 0 r_10 y5_12 →
  Q σ_14) σ_9) σ
/-! Model.attributeOf(IIJ)I -/
def wp_Model_attributeOf_b57 (cf : Cf) (tv : Nat → Int) (x1 : Int) (x2 : Int) (x3 : Int) (Q : Int → St → Prop) (K10 : Int → Int → St → Prop) (y6 : Int) (t0 : Int) (σ : St) : Prop :=
  ∀ y6_7, y6_7 = w32 (y6 + 1) →
  K10 t0 y6_7 σ
def wp_Model_attributeOf_b55 (cf : Cf) (tv : Nat → Int) (x1 : Int) (x2 : Int) (x3 : Int) (Q : Int → St → Prop) (K57 : Int → Int → St → Prop) (y5 : Int) (y6 : Int) (σ : St) : Prop :=
  K57 y6 y5 σ
def wp_Model_attributeOf_L10 (cf : Cf) (tv : Nat → Int) (x1 : Int) (x2 : Int) (x3 : Int) (Q : Int → St → Prop) (K10 : Int → Int → St → Prop) (y5 : Int) (y6 : Int) (σ : St) : Prop :=
  ((0 : Int) ≤ x1 ∧ x1 < 2) ∧
  ((w32 ((w32 (700 * x1)) + (gA σ 721 0 x1))) ≤ y6 →
    Q y5 σ) ∧
  (¬ (w32 ((w32 (700 * x1)) + (gA σ 721 0 x1))) ≤ y6 →
    ((0 : Int) ≤ y6 ∧ y6 < 1400) ∧
    (¬ (gA σ 722 0 y6) = x2 →
      wp_Model_attributeOf_b55 cf tv x1 x2 x3 Q (wp_Model_attributeOf_b57 cf tv x1 x2 x3 Q K10) y5 y6 σ) ∧
    ((gA σ 722 0 y6) = x2 →
      ((0 : Int) ≤ y6 ∧ y6 < 1400) ∧
      (¬ (gA σ 723 0 y6) = x3 →
        wp_Model_attributeOf_b55 cf tv x1 x2 x3 Q (wp_Model_attributeOf_b57 cf tv x1 x2 x3 Q K10) y5 y6 σ) ∧
      ((gA σ 723 0 y6) = x3 →
        wp_Model_attributeOf_b57 cf tv x1 x2 x3 Q K10 y6 y6 σ)))
abbrev rm_Model_attributeOf : Room := { frames := 0, cells := 0, slots := 0, locals := 0 }
def wp_Model_attributeOf (cf : Cf) (tv : Nat → Int) (x1 : Int) (x2 : Int) (x3 : Int) (Q : Int → St → Prop) (σ : St) : Prop :=
  ∀ y6_8, y6_8 = w32 (700 * x1) →
  lQ2 (wp_Model_attributeOf_L10 cf tv x1 x2 x3 Q) (-1) y6_8 σ
/-! Model.setAttribute(II)V -/
def wp_Model_setAttribute_b70 (cf : Cf) (tv : Nat → Int) (x1 : Int) (x2 : Int) (Q : St → Prop) (y3 : Int) (σ : St) : Prop :=
  ((0 : Int) ≤ x2 ∧ x2 < 8) ∧
  ((0 : Int) ≤ y3 ∧ y3 < 1400) ∧
  ∀ σ_8, σ_8 = sA σ 724 0 y3 (gA σ 739 0 x2) →
  Q σ_8
abbrev rm_Model_setAttribute : Room := { frames := 1, cells := 0, slots := 0, locals := 26 }
def wp_Model_setAttribute (cf : Cf) (tv : Nat → Int) (x1 : Int) (x2 : Int) (Q : St → Prop) (σ : St) : Prop :=
  ((0 : Int) ≤ x2 ∧ x2 < 8) ∧
  ((0 : Int) ≤ x2 ∧ x2 < 8) ∧
  wp_Model_attributeOf cf tv x1 (gA σ 733 0 x2) (gA σ 738 0 x2) (fun r_9 σ_10 => rI r_9 → RK σ_10 →
  (¬ r_9 = (-1) →
    wp_Model_setAttribute_b70 cf tv x1 x2 Q r_9 σ_10) ∧
  (r_9 = (-1) →
    ((0 : Int) ≤ x1 ∧ x1 < 2) ∧
    ∀ y3_11, y3_11 = w32 ((w32 (700 * x1)) + (gA σ_10 721 0 x1)) →
    ((0 : Int) ≤ x2 ∧ x2 < 8) ∧
    ((0 : Int) ≤ y3_11 ∧ y3_11 < 1400) ∧
    ∀ σ_12, σ_12 = sA σ_10 722 0 y3_11 (gA σ_10 733 0 x2) →
    ((0 : Int) ≤ x2 ∧ x2 < 8) ∧
    ((0 : Int) ≤ y3_11 ∧ y3_11 < 1400) ∧
    ∀ σ_13, σ_13 = sA σ_12 723 0 y3_11 (gA σ_12 738 0 x2) →
    ((0 : Int) ≤ x1 ∧ x1 < 2) ∧
    ((0 : Int) ≤ x1 ∧ x1 < 2) ∧
    ∀ σ_14, σ_14 = sA σ_13 721 0 x1 (w32 ((gA σ_13 721 0 x1) + 1)) →
    wp_Model_setAttribute_b70 cf tv x1 x2 Q y3_11 σ_14)) σ
/-! Model.does(II)V -/
def wp_Model_does_b320 (cf : Cf) (tv : Nat → Int) (x1 : Int) (x2 : Int) (Q : St → Prop) (σ : St) : Prop :=
  ((0 : Int) ≤ x2 ∧ x2 < 8) ∧
  wp_Model_dropNode cf tv x1 (gA σ 733 0 x2) (fun σ_33 => RK σ_33 →
  Q σ_33) σ
def wp_Model_does_b164 (cf : Cf) (tv : Nat → Int) (x1 : Int) (x2 : Int) (Q : St → Prop) (σ : St) : Prop :=
  ((0 : Int) ≤ x2 ∧ x2 < 8) ∧
  ((0 : Int) ≤ x2 ∧ x2 < 8) ∧
  wp_Model_entryOf cf tv x1 (gA σ 733 0 x2) (gA σ 738 0 x2) (fun r_34 σ_35 => rI r_34 → RK σ_35 →
  ((0 : Int) ≤ r_34 ∧ r_34 < 1400) ∧
  ∀ y4_36, y4_36 = gA σ_35 720 0 r_34 →
  wp_Model_dropEntry cf tv x1 r_34 (fun σ_38 => RK σ_38 →
  ((0 : Int) ≤ x2 ∧ x2 < 8) ∧
  ((gA σ_38 737 0 x2) = 0 →
    Q σ_38) ∧
  (¬ (gA σ_38 737 0 x2) = 0 →
    wp_Model_dropNode cf tv x1 y4_36 (fun σ_40 => RK σ_40 →
    Q σ_40) σ_38)) σ_35) σ
abbrev rm_Model_does : Room := { frames := 3, cells := 0, slots := 0, locals := 75 }
def wp_Model_does (cf : Cf) (tv : Nat → Int) (x1 : Int) (x2 : Int) (Q : St → Prop) (σ : St) : Prop :=
  ((0 : Int) ≤ x2 ∧ x2 < 8) ∧
  ((gA σ 732 0 x2) = 1 →
    ((0 : Int) ≤ x2 ∧ x2 < 8) ∧
    ((0 : Int) ≤ x2 ∧ x2 < 8) ∧
    ((0 : Int) ≤ x1 ∧ x1 < 2) ∧
    wp_Model_addEntry cf tv x1 (gA σ 733 0 x2) (gA σ 738 0 x2) (gA σ 712 0 x1) (fun σ_42 => RK σ_42 →
    ((0 : Int) ≤ x2 ∧ x2 < 8) ∧
    wp_Model_addNode cf tv x1 (gA σ_42 734 0 x2) (fun σ_44 => RK σ_44 →
    ((0 : Int) ≤ x2 ∧ x2 < 8) ∧
    (¬ (gA σ_44 734 0 x2) = 3 →
      Q σ_44) ∧
    ((gA σ_44 734 0 x2) = 3 →
      ((0 : Int) ≤ x1 ∧ x1 < 2) ∧
      ((0 : Int) ≤ x2 ∧ x2 < 8) ∧
      ((0 : Int) ≤ x2 ∧ x2 < 8) ∧
      wp_Model_setPiece cf tv x1 (w32 ((gA σ_44 712 0 x1) - 1)) 0 (gA σ_44 735 0 x2) (gA σ_44 735 0 x2) x2 (fun σ_46 => RK σ_46 →
      Q σ_46) σ_44)) σ_42) σ) ∧
  ((gA σ 732 0 x2) = 2 →
    ((0 : Int) ≤ x2 ∧ x2 < 8) ∧
    ((0 : Int) ≤ x2 ∧ x2 < 8) ∧
    ((0 : Int) ≤ x2 ∧ x2 < 8) ∧
    wp_Model_addEntry cf tv x1 (gA σ 733 0 x2) (gA σ 738 0 x2) (gA σ 734 0 x2) (fun σ_48 => RK σ_48 →
    Q σ_48) σ) ∧
  ((gA σ 732 0 x2) = 3 →
    wp_Model_does_b164 cf tv x1 x2 Q σ) ∧
  ((gA σ 732 0 x2) = 4 →
    wp_Model_does_b164 cf tv x1 x2 Q σ) ∧
  ((gA σ 732 0 x2) = 5 →
    wp_Model_moveEntry cf tv x1 x2 (fun σ_50 => RK σ_50 →
    Q σ_50) σ) ∧
  ((gA σ 732 0 x2) = 6 →
    ((0 : Int) ≤ x2 ∧ x2 < 8) ∧
    ((0 : Int) ≤ x2 ∧ x2 < 8) ∧
    ((0 : Int) ≤ x2 ∧ x2 < 8) ∧
    ((0 : Int) ≤ x2 ∧ x2 < 8) ∧
    wp_Model_setPiece cf tv x1 (gA σ 733 0 x2) (gA σ 734 0 x2) (gA σ 735 0 x2) (gA σ 736 0 x2) x2 (fun σ_52 => RK σ_52 →
    Q σ_52) σ) ∧
  ((gA σ 732 0 x2) = 7 →
    ((0 : Int) ≤ x2 ∧ x2 < 8) ∧
    ((0 : Int) ≤ x2 ∧ x2 < 8) ∧
    wp_Model_cutTo cf tv x1 (gA σ 733 0 x2) (gA σ 734 0 x2) (fun σ_54 => RK σ_54 →
    Q σ_54) σ) ∧
  ((gA σ 732 0 x2) = 8 →
    wp_Model_does_b320 cf tv x1 x2 Q σ) ∧
  ((gA σ 732 0 x2) = 9 →
    wp_Model_swapEntries cf tv x1 x2 (fun σ_56 => RK σ_56 →
    Q σ_56) σ) ∧
  ((gA σ 732 0 x2) = 10 →
    wp_Model_setAttribute cf tv x1 x2 (fun σ_58 => RK σ_58 →
    Q σ_58) σ) ∧
  ((gA σ 732 0 x2) = 11 →
    ((0 : Int) ≤ x2 ∧ x2 < 8) ∧
    ((0 : Int) ≤ x2 ∧ x2 < 8) ∧
    wp_Model_attributeOf cf tv x1 (gA σ 733 0 x2) (gA σ 738 0 x2) (fun r_59 σ_60 => rI r_59 → RK σ_60 →
    wp_Model_dropAttribute cf tv x1 r_59 (fun σ_62 => RK σ_62 →
    Q σ_62) σ_60) σ) ∧
  (((gA σ 732 0 x2) < 1 ∨ 11 < (gA σ 732 0 x2)) →
  wp_Model_does_b320 cf tv x1 x2 Q σ)
/-! Model.becomesSafe(I)V -/
def wp_Model_becomesSafe_L144 (cf : Cf) (tv : Nat → Int) (x1 : Int) (Q : St → Prop) (K21 : Int → St → Prop) (K144 : Int → Int → Int → St → Prop) (y2 : Int) (y3 : Int) (y4 : Int) (σ : St) : Prop :=
  (64 ≤ y4 →
    ∀ y2_35, y2_35 = w32 (y2 + 1) →
    K21 y2_35 σ) ∧
  (¬ 64 ≤ y4 →
    ((0 : Int) ≤ w32 ((w32 (64 * y2)) + y4) ∧ w32 ((w32 (64 * y2)) + y4) < 512) ∧
    ((0 : Int) ≤ w32 ((w32 (64 * y3)) + y4) ∧ w32 ((w32 (64 * y3)) + y4) < 512) ∧
    ∀ σ_36, σ_36 = sA σ 740 0 (w32 ((w32 (64 * y3)) + y4)) (gA σ 740 0 (w32 ((w32 (64 * y2)) + y4))) →
    ∀ y4_37, y4_37 = w32 (y4 + 1) →
    K144 y2 y3 y4_37 σ_36)
def wp_Model_becomesSafe_L21 (cf : Cf) (tv : Nat → Int) (x1 : Int) (Q : St → Prop) (K21 : Int → St → Prop) (y2 : Int) (σ : St) : Prop :=
  ((gI σ 730 0) ≤ y2 →
    ∀ σ_38, σ_38 = sI σ 730 0 (w32 ((gI σ 730 0) - x1)) →
    Q σ_38) ∧
  (¬ (gI σ 730 0) ≤ y2 →
    ∀ y3_39, y3_39 = w32 (y2 - x1) →
    ((0 : Int) ≤ y2 ∧ y2 < 8) ∧
    ((0 : Int) ≤ y3_39 ∧ y3_39 < 8) ∧
    ∀ σ_40, σ_40 = sA σ 731 0 y3_39 (gA σ 731 0 y2) →
    ((0 : Int) ≤ y2 ∧ y2 < 8) ∧
    ((0 : Int) ≤ y3_39 ∧ y3_39 < 8) ∧
    ∀ σ_41, σ_41 = sA σ_40 732 0 y3_39 (gA σ_40 732 0 y2) →
    ((0 : Int) ≤ y2 ∧ y2 < 8) ∧
    ((0 : Int) ≤ y3_39 ∧ y3_39 < 8) ∧
    ∀ σ_42, σ_42 = sA σ_41 733 0 y3_39 (gA σ_41 733 0 y2) →
    ((0 : Int) ≤ y2 ∧ y2 < 8) ∧
    ((0 : Int) ≤ y3_39 ∧ y3_39 < 8) ∧
    ∀ σ_43, σ_43 = sA σ_42 734 0 y3_39 (gA σ_42 734 0 y2) →
    ((0 : Int) ≤ y2 ∧ y2 < 8) ∧
    ((0 : Int) ≤ y3_39 ∧ y3_39 < 8) ∧
    ∀ σ_44, σ_44 = sA σ_43 735 0 y3_39 (gA σ_43 735 0 y2) →
    ((0 : Int) ≤ y2 ∧ y2 < 8) ∧
    ((0 : Int) ≤ y3_39 ∧ y3_39 < 8) ∧
    ∀ σ_45, σ_45 = sA σ_44 736 0 y3_39 (gA σ_44 736 0 y2) →
    ((0 : Int) ≤ y2 ∧ y2 < 8) ∧
    ((0 : Int) ≤ y3_39 ∧ y3_39 < 8) ∧
    ∀ σ_46, σ_46 = sA σ_45 737 0 y3_39 (gA σ_45 737 0 y2) →
    ((0 : Int) ≤ y2 ∧ y2 < 8) ∧
    ((0 : Int) ≤ y3_39 ∧ y3_39 < 8) ∧
    ∀ σ_47, σ_47 = sA σ_46 738 0 y3_39 (gA σ_46 738 0 y2) →
    ((0 : Int) ≤ y2 ∧ y2 < 8) ∧
    ((0 : Int) ≤ y3_39 ∧ y3_39 < 8) ∧
    ∀ σ_48, σ_48 = sA σ_47 739 0 y3_39 (gA σ_47 739 0 y2) →
    lQ3 (wp_Model_becomesSafe_L144 cf tv x1 Q K21) y2 y3_39 0 σ_48)
def wp_Model_becomesSafe_L2 (cf : Cf) (tv : Nat → Int) (x1 : Int) (Q : St → Prop) (K2 : Int → St → Prop) (y2 : Int) (σ : St) : Prop :=
  (x1 ≤ y2 →
    lQ1 (wp_Model_becomesSafe_L21 cf tv x1 Q) x1 σ) ∧
  (¬ x1 ≤ y2 →
    wp_Model_does cf tv 1 y2 (fun σ_50 => RK σ_50 →
    ∀ y2_51, y2_51 = w32 (y2 + 1) →
    K2 y2_51 σ_50) σ)
abbrev rm_Model_becomesSafe : Room := { frames := 4, cells := 0, slots := 0, locals := 99 }
def wp_Model_becomesSafe (cf : Cf) (tv : Nat → Int) (x1 : Int) (Q : St → Prop) (σ : St) : Prop :=
  lQ1 (wp_Model_becomesSafe_L2 cf tv x1 Q) 0 σ
/-! Model.hand(I)V -/
def wp_Model_hand_b127 (cf : Cf) (tv : Nat → Int) (x1 : Int) (Q : St → Prop) (y4 : Int) (σ : St) : Prop :=
  wp_Model_becomesSafe cf tv y4 (fun σ_35 => RK σ_35 →
  Q σ_35) σ
def wp_Model_hand_L90 (cf : Cf) (tv : Nat → Int) (x1 : Int) (Q : St → Prop) (K90 : Int → St → Prop) (y4 : Int) (σ : St) : Prop :=
  ((gI σ 730 0) ≤ y4 →
    wp_Model_hand_b127 cf tv x1 Q y4 σ) ∧
  (¬ (gI σ 730 0) ≤ y4 →
    ((0 : Int) ≤ y4 ∧ y4 < 8) ∧
    ((w32 ((jdv (gI σ 707 0) 128) * 128)) < (gA σ 731 0 y4) →
      wp_Model_hand_b127 cf tv x1 Q y4 σ) ∧
    (¬ (w32 ((jdv (gI σ 707 0) 128) * 128)) < (gA σ 731 0 y4) →
      ∀ y4_36, y4_36 = w32 (y4 + 1) →
      K90 y4_36 σ))
def wp_Model_hand_b56 (cf : Cf) (tv : Nat → Int) (x1 : Int) (Q : St → Prop) (y3 : Int) (t0 : Int) (σ : St) : Prop :=
  ∀ σ_37, σ_37 = sI σ 707 0 t0 →
  ((0 : Int) ≤ gI σ_37 730 0 ∧ gI σ_37 730 0 < 8) ∧
  ∀ σ_38, σ_38 = sA σ_37 731 0 (gI σ_37 730 0) (gI σ_37 707 0) →
  ∀ σ_39, σ_39 = sI σ_38 730 0 (w32 ((gI σ_38 730 0) + 1)) →
  wp_Model_becomesSafe cf tv y3 (fun σ_41 => RK σ_41 →
  lQ1 (wp_Model_hand_L90 cf tv x1 Q) 0 σ_41) σ_39
def wp_Model_hand_b40 (cf : Cf) (tv : Nat → Int) (x1 : Int) (Q : St → Prop) (y2 : Int) (t0 : Int) (σ : St) : Prop :=
  (y2 = 0 →
    wp_Model_hand_b56 cf tv x1 Q t0 (w32 ((gI σ 707 0) + x1)) σ) ∧
  (¬ y2 = 0 →
    wp_Model_hand_b56 cf tv x1 Q t0 x1 σ)
abbrev rm_Model_hand : Room := { frames := 5, cells := 0, slots := 0, locals := 123 }
def wp_Model_hand (cf : Cf) (tv : Nat → Int) (x1 : Int) (Q : St → Prop) (σ : St) : Prop :=
  wp_Model_does cf tv 0 (gI σ 730 0) (fun σ_43 => RK σ_43 →
  ∀ y2_44, y2_44 = (if (w32 ((gI σ_43 707 0) + x1)) ≤ ((cf.2.1 - 2) * 128) then (0 : Int) else (1 : Int)) →
  (y2_44 = 0 →
    wp_Model_hand_b40 cf tv x1 Q y2_44 0 σ_43) ∧
  (¬ y2_44 = 0 →
    wp_Model_hand_b40 cf tv x1 Q y2_44 (gI σ_43 730 0) σ_43)) σ
/-! Model.make(IJI)I -/
def wp_Model_make_b247 (cf : Cf) (tv : Nat → Int) (x1 : Int) (x2 : Int) (x4 : Int) (Q : Int → St → Prop) (y6 : Int) (t0 : Int) (σ : St) : Prop :=
  ∀ σ_67, σ_67 = sI σ 743 0 t0 →
  Q y6 σ_67
def wp_Model_make_b229 (cf : Cf) (tv : Nat → Int) (x1 : Int) (x2 : Int) (x4 : Int) (Q : Int → St → Prop) (y6 : Int) (t0 : Int) (σ : St) : Prop :=
  wp_Model_hand cf tv t0 (fun σ_69 => RK σ_69 →
  (¬ x4 = 3 →
    wp_Model_make_b247 cf tv x1 x2 x4 Q y6 (gI σ_69 743 0) σ_69) ∧
  (x4 = 3 →
    wp_Model_make_b247 cf tv x1 x2 x4 Q y6 0 σ_69)) σ
def wp_Model_make_b198 (cf : Cf) (tv : Nat → Int) (x1 : Int) (x2 : Int) (x4 : Int) (Q : Int → St → Prop) (K159 : Int → Int → Int → St → Prop) (y6 : Int) (y7 : Int) (y8 : Int) (t0 : Int) (t1 : Int) (σ : St) : Prop :=
  ((0 : Int) ≤ t1 ∧ t1 < 512) ∧
  ∀ σ_70, σ_70 = sA σ 740 0 t1 t0 →
  ∀ y8_71, y8_71 = w32 (y8 + 1) →
  K159 y6 y7 y8_71 σ_70
def wp_Model_make_b205 (cf : Cf) (tv : Nat → Int) (x1 : Int) (x2 : Int) (x4 : Int) (Q : Int → St → Prop) (y6 : Int) (σ : St) : Prop :=
  (¬ x4 = 3 →
    wp_Model_make_b229 cf tv x1 x2 x4 Q y6 144 σ) ∧
  (x4 = 3 →
    wp_Model_eights cf tv (gI σ 743 0) (fun r_72 σ_73 => rI r_72 → RK σ_73 →
    wp_Model_make_b229 cf tv x1 x2 x4 Q y6 (w32 (176 + r_72)) σ_73) σ)
def wp_Model_make_L159 (cf : Cf) (tv : Nat → Int) (x1 : Int) (x2 : Int) (x4 : Int) (Q : Int → St → Prop) (K205 : Int → St → Prop) (K159 : Int → Int → Int → St → Prop) (y6 : Int) (y7 : Int) (y8 : Int) (σ : St) : Prop :=
  (64 ≤ y8 →
    K205 y6 σ) ∧
  (¬ 64 ≤ y8 →
    ((gI σ 743 0) ≤ y8 →
      wp_Model_make_b198 cf tv x1 x2 x4 Q K159 y6 y7 y8 0 (w32 ((w32 (64 * y7)) + y8)) σ) ∧
    (¬ (gI σ 743 0) ≤ y8 →
      ((0 : Int) ≤ y8 ∧ y8 < 200) ∧
      wp_Model_make_b198 cf tv x1 x2 x4 Q K159 y6 y7 y8 (gA σ 744 0 y8) (w32 ((w32 (64 * y7)) + y8)) σ))
def wp_Model_make_b102 (cf : Cf) (tv : Nat → Int) (x1 : Int) (x2 : Int) (x4 : Int) (Q : Int → St → Prop) (t0 : Int) (t1 : Int) (σ : St) : Prop :=
  ((w32 (t1 + t0)) ≤ (cap cf) →
    ((0 : Int) ≤ (0 : Int) ∧ (0 : Int) < 2) ∧
    ∀ y6_74, y6_74 = gA σ 712 0 0 →
    wp_Model_group cf tv 1 x1 x4 (fun r_75 σ_76 => rI r_75 → RK σ_76 →
    ((0 : Int) ≤ r_75 ∧ r_75 < 8) ∧
    ∀ σ_77, σ_77 = sA σ_76 738 0 r_75 x2 →
    (¬ x4 = 3 →
      wp_Model_make_b205 cf tv x1 x2 x4 Q y6_74 σ_77) ∧
    (x4 = 3 →
      ((0 : Int) ≤ r_75 ∧ r_75 < 8) ∧
      ∀ σ_78, σ_78 = sA σ_77 735 0 r_75 (gI σ_77 743 0) →
      lQ3 (wp_Model_make_L159 cf tv x1 x2 x4 Q (wp_Model_make_b205 cf tv x1 x2 x4 Q)) y6_74 r_75 0 σ_78)) σ) ∧
  (¬ (w32 (t1 + t0)) ≤ (cap cf) →
    Q (-10) σ)
def wp_Model_make_b39 (cf : Cf) (tv : Nat → Int) (x1 : Int) (x2 : Int) (x4 : Int) (Q : Int → St → Prop) (K49 : Int → St → Prop) (σ : St) : Prop :=
  K49 (-3) σ
def wp_Model_make_b44 (cf : Cf) (tv : Nat → Int) (x1 : Int) (x2 : Int) (x4 : Int) (Q : Int → St → Prop) (K49 : Int → St → Prop) (σ : St) : Prop :=
  wp_Model_askDirectory cf tv x1 (fun r_79 σ_80 => rI r_79 → RK σ_80 →
  K49 r_79 σ_80) σ
def wp_Model_make_b49 (cf : Cf) (tv : Nat → Int) (x1 : Int) (x2 : Int) (x4 : Int) (Q : Int → St → Prop) (t0 : Int) (σ : St) : Prop :=
  (t0 = 0 →
    wp_Model_entryOf cf tv 0 x1 x2 (fun r_81 σ_82 => rI r_81 → RK σ_82 →
    (r_81 = (-1) →
      wp_Model_live cf tv (fun r_83 σ_84 => rI r_83 → RK σ_84 →
      (¬ x4 = 3 →
        wp_Model_make_b102 cf tv x1 x2 x4 Q 0 (w32 (r_83 + 480)) σ_84) ∧
      (x4 = 3 →
        wp_Model_eights cf tv (gI σ_84 743 0) (fun r_85 σ_86 => rI r_85 → RK σ_86 →
        wp_Model_make_b102 cf tv x1 x2 x4 Q (w32 (224 + r_85)) (w32 (r_83 + 480)) σ_86) σ_84)) σ_82) ∧
    (¬ r_81 = (-1) →
      Q (-5) σ_82)) σ) ∧
  (¬ t0 = 0 →
    Q t0 σ)
abbrev rm_Model_make : Room := { frames := 6, cells := 0, slots := 0, locals := 147 }
def wp_Model_make (cf : Cf) (tv : Nat → Int) (x1 : Int) (x2 : Int) (x4 : Int) (Q : Int → St → Prop) (σ : St) : Prop :=
  (¬ (gI σ 706 0) = 0 →
    wp_Model_isName cf tv x2 (fun r_87 σ_88 => rZ r_87 → RK σ_88 →
    (r_87 = 0 →
      wp_Model_make_b39 cf tv x1 x2 x4 Q (wp_Model_make_b49 cf tv x1 x2 x4 Q) σ_88) ∧
    (¬ r_87 = 0 →
      (¬ x4 = 3 →
        wp_Model_make_b44 cf tv x1 x2 x4 Q (wp_Model_make_b49 cf tv x1 x2 x4 Q) σ_88) ∧
      (x4 = 3 →
        ((gI σ_88 743 0) = 0 →
          wp_Model_make_b39 cf tv x1 x2 x4 Q (wp_Model_make_b49 cf tv x1 x2 x4 Q) σ_88) ∧
        (¬ (gI σ_88 743 0) = 0 →
          ((gI σ_88 743 0) ≤ 64 →
            wp_Model_make_b44 cf tv x1 x2 x4 Q (wp_Model_make_b49 cf tv x1 x2 x4 Q) σ_88) ∧
          (¬ (gI σ_88 743 0) ≤ 64 →
            wp_Model_make_b39 cf tv x1 x2 x4 Q (wp_Model_make_b49 cf tv x1 x2 x4 Q) σ_88))))) σ) ∧
  ((gI σ 706 0) = 0 →
    Q (-2) σ)
/-! Model.create(IJ)I -/
abbrev rm_Model_create : Room := { frames := 7, cells := 0, slots := 0, locals := 175 }
def wp_Model_create (cf : Cf) (tv : Nat → Int) (x1 : Int) (x2 : Int) (Q : Int → St → Prop) (σ : St) : Prop :=
  wp_Model_make cf tv x1 x2 2 (fun r_3 σ_4 => rI r_3 → RK σ_4 →
  Q r_3 σ_4) σ
/-! Model.mkdir(IJ)I -/
abbrev rm_Model_mkdir : Room := { frames := 7, cells := 0, slots := 0, locals := 175 }
def wp_Model_mkdir (cf : Cf) (tv : Nat → Int) (x1 : Int) (x2 : Int) (Q : Int → St → Prop) (σ : St) : Prop :=
  wp_Model_make cf tv x1 x2 1 (fun r_3 σ_4 => rI r_3 → RK σ_4 →
  Q r_3 σ_4) σ
/-! Model.sign(IJ)I -/
abbrev rm_Model_sign : Room := { frames := 7, cells := 0, slots := 0, locals := 175 }
def wp_Model_sign (cf : Cf) (tv : Nat → Int) (x1 : Int) (x2 : Int) (Q : Int → St → Prop) (σ : St) : Prop :=
  wp_Model_make cf tv x1 x2 3 (fun r_3 σ_4 => rI r_3 → RK σ_4 →
  Q r_3 σ_4) σ
/-! Model.links(II)I -/
def wp_Model_links_L9 (cf : Cf) (tv : Nat → Int) (x1 : Int) (x2 : Int) (Q : Int → St → Prop) (K9 : Int → Int → St → Prop) (y3 : Int) (y4 : Int) (σ : St) : Prop :=
  ((0 : Int) ≤ x1 ∧ x1 < 2) ∧
  ((w32 ((w32 (700 * x1)) + (gA σ 717 0 x1))) ≤ y4 →
    Q y3 σ) ∧
  (¬ (w32 ((w32 (700 * x1)) + (gA σ 717 0 x1))) ≤ y4 →
    ((0 : Int) ≤ y4 ∧ y4 < 1400) ∧
    ∀ y3_7, y3_7 = w32 (y3 + (if (gA σ 720 0 y4) = x2 then (1 : Int) else (0 : Int))) →
    ∀ y4_8, y4_8 = w32 (y4 + 1) →
    K9 y3_7 y4_8 σ)
abbrev rm_Model_links : Room := { frames := 0, cells := 0, slots := 0, locals := 0 }
def wp_Model_links (cf : Cf) (tv : Nat → Int) (x1 : Int) (x2 : Int) (Q : Int → St → Prop) (σ : St) : Prop :=
  ∀ y4_9, y4_9 = w32 (700 * x1) →
  lQ2 (wp_Model_links_L9 cf tv x1 x2 Q) 0 y4_9 σ
/-! Model.link(IIJ)I -/
def wp_Model_link_b57 (cf : Cf) (tv : Nat → Int) (x1 : Int) (x2 : Int) (x3 : Int) (Q : Int → St → Prop) (y5 : Int) (σ : St) : Prop :=
  ((0 : Int) ≤ y5 ∧ y5 < 1400) ∧
  ((gA σ 715 0 y5) = 2 →
    wp_Model_askDirectory cf tv x2 (fun r_20 σ_21 => rI r_20 → RK σ_21 →
    (r_20 = 0 →
      wp_Model_entryOf cf tv 0 x2 x3 (fun r_22 σ_23 => rI r_22 → RK σ_23 →
      (r_22 = (-1) →
        wp_Model_live cf tv (fun r_24 σ_25 => rI r_24 → RK σ_25 →
        ((w32 (r_24 + 240)) ≤ (cap cf) →
          wp_Model_group cf tv 2 x2 x1 (fun r_26 σ_27 => rI r_26 → RK σ_27 →
          ((0 : Int) ≤ r_26 ∧ r_26 < 8) ∧
          ∀ σ_28, σ_28 = sA σ_27 738 0 r_26 x3 →
          wp_Model_hand cf tv 144 (fun σ_30 => RK σ_30 →
          wp_Model_links cf tv 0 x1 (fun r_31 σ_32 => rI r_31 → RK σ_32 →
          Q r_31 σ_32) σ_30) σ_28) σ_25) ∧
        (¬ (w32 (r_24 + 240)) ≤ (cap cf) →
          Q (-10) σ_25)) σ_23) ∧
      (¬ r_22 = (-1) →
        Q (-5) σ_23)) σ_21) ∧
    (¬ r_20 = 0 →
      Q r_20 σ_21)) σ) ∧
  (¬ (gA σ 715 0 y5) = 2 →
    ((0 : Int) ≤ y5 ∧ y5 < 1400) ∧
    Q (if (gA σ 715 0 y5) = 1 then (-7 : Int) else (-11 : Int)) σ)
abbrev rm_Model_link : Room := { frames := 6, cells := 0, slots := 0, locals := 147 }
def wp_Model_link (cf : Cf) (tv : Nat → Int) (x1 : Int) (x2 : Int) (x3 : Int) (Q : Int → St → Prop) (σ : St) : Prop :=
  (¬ (gI σ 706 0) = 0 →
    wp_Model_isName cf tv x3 (fun r_33 σ_34 => rZ r_33 → RK σ_34 →
    (¬ r_33 = 0 →
      wp_Model_nodeOf cf tv 0 x1 (fun r_35 σ_36 => rI r_35 → RK σ_36 →
      (r_35 = (-1) →
        Q (-4) σ_36) ∧
      (¬ r_35 = (-1) →
        ((0 : Int) ≤ r_35 ∧ r_35 < 1400) ∧
        ((gA σ_36 715 0 r_35) = 1 →
          wp_Model_link_b57 cf tv x1 x2 x3 Q r_35 σ_36) ∧
        (¬ (gA σ_36 715 0 r_35) = 1 →
          wp_Model_links cf tv 0 x1 (fun r_37 σ_38 => rI r_37 → RK σ_38 →
          (¬ r_37 = 0 →
            wp_Model_link_b57 cf tv x1 x2 x3 Q r_35 σ_38) ∧
          (r_37 = 0 →
            Q (-4) σ_38)) σ_36))) σ_34) ∧
    (r_33 = 0 →
      Q (-3) σ_34)) σ) ∧
  ((gI σ 706 0) = 0 →
    Q (-2) σ)
/-! Model.isOpen(I)Z -/
def wp_Model_isOpen_b24 (cf : Cf) (tv : Nat → Int) (x1 : Int) (Q : Int → St → Prop) (K29 : Int → Int → St → Prop) (y3 : Int) (σ : St) : Prop :=
  K29 y3 1 σ
def wp_Model_isOpen_b29 (cf : Cf) (tv : Nat → Int) (x1 : Int) (Q : Int → St → Prop) (K4 : Int → Int → St → Prop) (y3 : Int) (t0 : Int) (σ : St) : Prop :=
  ∀ y3_4, y3_4 = w32 (y3 + 1) →
  K4 t0 y3_4 σ
def wp_Model_isOpen_L4 (cf : Cf) (tv : Nat → Int) (x1 : Int) (Q : Int → St → Prop) (K4 : Int → Int → St → Prop) (y2 : Int) (y3 : Int) (σ : St) : Prop :=
  (8 ≤ y3 →
    Q y2 σ) ∧
  (¬ 8 ≤ y3 →
    (¬ y2 = 0 →
      wp_Model_isOpen_b24 cf tv x1 Q (wp_Model_isOpen_b29 cf tv x1 Q K4) y3 σ) ∧
    (y2 = 0 →
      ((0 : Int) ≤ y3 ∧ y3 < 8) ∧
      (¬ (gA σ 711 0 y3) = x1 →
        wp_Model_isOpen_b29 cf tv x1 Q K4 y3 0 σ) ∧
      ((gA σ 711 0 y3) = x1 →
        wp_Model_isOpen_b24 cf tv x1 Q (wp_Model_isOpen_b29 cf tv x1 Q K4) y3 σ)))
abbrev rm_Model_isOpen : Room := { frames := 0, cells := 0, slots := 0, locals := 0 }
def wp_Model_isOpen (cf : Cf) (tv : Nat → Int) (x1 : Int) (Q : Int → St → Prop) (σ : St) : Prop :=
  lQ2 (wp_Model_isOpen_L4 cf tv x1 Q) 0 0 σ
/-! Model.unlink(IJ)I -/
def wp_Model_unlink_b136 (cf : Cf) (tv : Nat → Int) (x1 : Int) (x2 : Int) (Q : Int → St → Prop) (y7 : Int) (t0 : Int) (t1 : Int) (σ : St) : Prop :=
  ((0 : Int) ≤ t1 ∧ t1 < 8) ∧
  ∀ σ_21, σ_21 = sA σ 737 0 t1 t0 →
  wp_Model_hand cf tv 144 (fun σ_23 => RK σ_23 →
  Q y7 σ_23) σ_21
def wp_Model_unlink_b135 (cf : Cf) (tv : Nat → Int) (x1 : Int) (x2 : Int) (Q : Int → St → Prop) (K136 : Int → Int → Int → St → Prop) (y7 : Int) (t0 : Int) (σ : St) : Prop :=
  K136 y7 0 t0 σ
def wp_Model_unlink_b27 (cf : Cf) (tv : Nat → Int) (x1 : Int) (x2 : Int) (Q : Int → St → Prop) (t0 : Int) (σ : St) : Prop :=
  (t0 = 0 →
    wp_Model_entryOf cf tv 0 x1 x2 (fun r_24 σ_25 => rI r_24 → RK σ_25 →
    (¬ r_24 = (-1) →
      ((0 : Int) ≤ r_24 ∧ r_24 < 1400) ∧
      ∀ y6_26, y6_26 = gA σ_25 720 0 r_24 →
      wp_Model_nodeOf cf tv 0 y6_26 (fun r_27 σ_28 => rI r_27 → RK σ_28 →
      ((0 : Int) ≤ r_27 ∧ r_27 < 1400) ∧
      (¬ (gA σ_28 715 0 r_27) = 1 →
        wp_Model_links cf tv 0 y6_26 (fun r_29 σ_30 => rI r_29 → RK σ_30 →
        ∀ y7_31, y7_31 = w32 (r_29 - 1) →
        wp_Model_group cf tv 3 x1 0 (fun r_32 σ_33 => rI r_32 → RK σ_33 →
        ((0 : Int) ≤ r_32 ∧ r_32 < 8) ∧
        ∀ σ_34, σ_34 = sA σ_33 738 0 r_32 x2 →
        (¬ y7_31 = 0 →
          wp_Model_unlink_b135 cf tv x1 x2 Q (wp_Model_unlink_b136 cf tv x1 x2 Q) y7_31 r_32 σ_34) ∧
        (y7_31 = 0 →
          wp_Model_isOpen cf tv y6_26 (fun r_35 σ_36 => rZ r_35 → RK σ_36 →
          (¬ r_35 = 0 →
            wp_Model_unlink_b135 cf tv x1 x2 Q (wp_Model_unlink_b136 cf tv x1 x2 Q) y7_31 r_32 σ_36) ∧
          (r_35 = 0 →
            wp_Model_unlink_b136 cf tv x1 x2 Q y7_31 1 r_32 σ_36)) σ_34)) σ_30) σ_28) ∧
      ((gA σ_28 715 0 r_27) = 1 →
        Q (-7) σ_28)) σ_25) ∧
    (r_24 = (-1) →
      Q (-4) σ_25)) σ) ∧
  (¬ t0 = 0 →
    Q t0 σ)
abbrev rm_Model_unlink : Room := { frames := 6, cells := 0, slots := 0, locals := 147 }
def wp_Model_unlink (cf : Cf) (tv : Nat → Int) (x1 : Int) (x2 : Int) (Q : Int → St → Prop) (σ : St) : Prop :=
  (¬ (gI σ 706 0) = 0 →
    wp_Model_isName cf tv x2 (fun r_37 σ_38 => rZ r_37 → RK σ_38 →
    (¬ r_37 = 0 →
      wp_Model_askDirectory cf tv x1 (fun r_39 σ_40 => rI r_39 → RK σ_40 →
      wp_Model_unlink_b27 cf tv x1 x2 Q r_39 σ_40) σ_38) ∧
    (r_37 = 0 →
      wp_Model_unlink_b27 cf tv x1 x2 Q (-3) σ_38)) σ) ∧
  ((gI σ 706 0) = 0 →
    Q (-2) σ)
/-! Model.filled(II)I -/
def wp_Model_filled_L9 (cf : Cf) (tv : Nat → Int) (x1 : Int) (x2 : Int) (Q : Int → St → Prop) (K9 : Int → Int → St → Prop) (y3 : Int) (y4 : Int) (σ : St) : Prop :=
  ((0 : Int) ≤ x1 ∧ x1 < 2) ∧
  ((w32 ((w32 (700 * x1)) + (gA σ 717 0 x1))) ≤ y4 →
    Q y3 σ) ∧
  (¬ (w32 ((w32 (700 * x1)) + (gA σ 717 0 x1))) ≤ y4 →
    ((0 : Int) ≤ y4 ∧ y4 < 1400) ∧
    ∀ y3_7, y3_7 = w32 (y3 + (if (gA σ 718 0 y4) = x2 then (1 : Int) else (0 : Int))) →
    ∀ y4_8, y4_8 = w32 (y4 + 1) →
    K9 y3_7 y4_8 σ)
abbrev rm_Model_filled : Room := { frames := 0, cells := 0, slots := 0, locals := 0 }
def wp_Model_filled (cf : Cf) (tv : Nat → Int) (x1 : Int) (x2 : Int) (Q : Int → St → Prop) (σ : St) : Prop :=
  ∀ y4_9, y4_9 = w32 (700 * x1) →
  lQ2 (wp_Model_filled_L9 cf tv x1 x2 Q) 0 y4_9 σ
/-! Model.rmdir(IJ)I -/
def wp_Model_rmdir_b27 (cf : Cf) (tv : Nat → Int) (x1 : Int) (x2 : Int) (Q : Int → St → Prop) (t0 : Int) (σ : St) : Prop :=
  (t0 = 0 →
    wp_Model_entryOf cf tv 0 x1 x2 (fun r_18 σ_19 => rI r_18 → RK σ_19 →
    (¬ r_18 = (-1) →
      ((0 : Int) ≤ r_18 ∧ r_18 < 1400) ∧
      ∀ y6_20, y6_20 = gA σ_19 720 0 r_18 →
      wp_Model_nodeOf cf tv 0 y6_20 (fun r_21 σ_22 => rI r_21 → RK σ_22 →
      ((0 : Int) ≤ r_21 ∧ r_21 < 1400) ∧
      ((gA σ_22 715 0 r_21) = 1 →
        wp_Model_filled cf tv 0 y6_20 (fun r_23 σ_24 => rI r_23 → RK σ_24 →
        (r_23 ≤ 0 →
          wp_Model_group cf tv 4 x1 0 (fun r_25 σ_26 => rI r_25 → RK σ_26 →
          ((0 : Int) ≤ r_25 ∧ r_25 < 8) ∧
          ∀ σ_27, σ_27 = sA σ_26 738 0 r_25 x2 →
          ((0 : Int) ≤ r_25 ∧ r_25 < 8) ∧
          ∀ σ_28, σ_28 = sA σ_27 737 0 r_25 1 →
          wp_Model_hand cf tv 144 (fun σ_30 => RK σ_30 →
          Q y6_20 σ_30) σ_28) σ_24) ∧
        (¬ r_23 ≤ 0 →
          Q (-8) σ_24)) σ_22) ∧
      (¬ (gA σ_22 715 0 r_21) = 1 →
        Q (-6) σ_22)) σ_19) ∧
    (r_18 = (-1) →
      Q (-4) σ_19)) σ) ∧
  (¬ t0 = 0 →
    Q t0 σ)
abbrev rm_Model_rmdir : Room := { frames := 6, cells := 0, slots := 0, locals := 147 }
def wp_Model_rmdir (cf : Cf) (tv : Nat → Int) (x1 : Int) (x2 : Int) (Q : Int → St → Prop) (σ : St) : Prop :=
  (¬ (gI σ 706 0) = 0 →
    wp_Model_isName cf tv x2 (fun r_31 σ_32 => rZ r_31 → RK σ_32 →
    (¬ r_31 = 0 →
      wp_Model_askDirectory cf tv x1 (fun r_33 σ_34 => rI r_33 → RK σ_34 →
      wp_Model_rmdir_b27 cf tv x1 x2 Q r_33 σ_34) σ_32) ∧
    (r_31 = 0 →
      wp_Model_rmdir_b27 cf tv x1 x2 Q (-3) σ_32)) σ) ∧
  ((gI σ 706 0) = 0 →
    Q (-2) σ)
/-! Model.isIn(II)Z -/
def wp_Model_isIn_b52 (cf : Cf) (tv : Nat → Int) (x1 : Int) (x2 : Int) (Q : Int → St → Prop) (K18 : Int → Int → Int → St → Prop) (y3 : Int) (y5 : Int) (t0 : Int) (σ : St) : Prop :=
  ∀ y5_4, y5_4 = w32 (y5 + 1) →
  K18 y3 t0 y5_4 σ
def wp_Model_isIn_L18 (cf : Cf) (tv : Nat → Int) (x1 : Int) (x2 : Int) (Q : Int → St → Prop) (K2 : Int → St → Prop) (K18 : Int → Int → Int → St → Prop) (y3 : Int) (y4 : Int) (y5 : Int) (σ : St) : Prop :=
  ((0 : Int) ≤ (0 : Int) ∧ (0 : Int) < 2) ∧
  ((gA σ 717 0 0) ≤ y5 →
    K2 y4 σ) ∧
  (¬ (gA σ 717 0 0) ≤ y5 →
    ((0 : Int) ≤ y5 ∧ y5 < 1400) ∧
    (¬ (gA σ 720 0 y5) = y3 →
      wp_Model_isIn_b52 cf tv x1 x2 Q K18 y3 y5 y4 σ) ∧
    ((gA σ 720 0 y5) = y3 →
      ((0 : Int) ≤ y5 ∧ y5 < 1400) ∧
      wp_Model_isIn_b52 cf tv x1 x2 Q K18 y3 y5 (gA σ 718 0 y5) σ))
def wp_Model_isIn_b66 (cf : Cf) (tv : Nat → Int) (x1 : Int) (x2 : Int) (Q : Int → St → Prop) (y3 : Int) (σ : St) : Prop :=
  Q (if y3 = x2 then (1 : Int) else (0 : Int)) σ
def wp_Model_isIn_L2 (cf : Cf) (tv : Nat → Int) (x1 : Int) (x2 : Int) (Q : Int → St → Prop) (K2 : Int → St → Prop) (y3 : Int) (σ : St) : Prop :=
  (y3 = x2 →
    wp_Model_isIn_b66 cf tv x1 x2 Q y3 σ) ∧
  (¬ y3 = x2 →
    (y3 = 1 →
      wp_Model_isIn_b66 cf tv x1 x2 Q y3 σ) ∧
    (¬ y3 = 1 →
      lQ3 (wp_Model_isIn_L18 cf tv x1 x2 Q K2) y3 1 0 σ))
abbrev rm_Model_isIn : Room := { frames := 0, cells := 0, slots := 0, locals := 0 }
def wp_Model_isIn (cf : Cf) (tv : Nat → Int) (x1 : Int) (x2 : Int) (Q : Int → St → Prop) (σ : St) : Prop :=
  lQ1 (wp_Model_isIn_L2 cf tv x1 x2 Q) x1 σ
/-! Model.rename(IJIJ)I -/
def wp_Model_rename_b248 (cf : Cf) (tv : Nat → Int) (x1 : Int) (x2 : Int) (x4 : Int) (x5 : Int) (Q : Int → St → Prop) (K249 : Int → Int → Int → St → Prop) (y11 : Int) (y12 : Int) (σ : St) : Prop :=
  K249 y11 y12 0 σ
def wp_Model_rename_b228 (cf : Cf) (tv : Nat → Int) (x1 : Int) (x2 : Int) (x4 : Int) (x5 : Int) (Q : Int → St → Prop) (K249 : Int → Int → Int → St → Prop) (y11 : Int) (y12 : Int) (y13 : Int) (σ : St) : Prop :=
  (y13 = 0 →
    wp_Model_rename_b248 cf tv x1 x2 x4 x5 Q K249 y11 y12 σ) ∧
  (¬ y13 = 0 →
    wp_Model_filled cf tv 0 y11 (fun r_35 σ_36 => rI r_35 → RK σ_36 →
    (r_35 ≤ 0 →
      wp_Model_rename_b248 cf tv x1 x2 x4 x5 Q K249 y11 y12 σ_36) ∧
    (¬ r_35 ≤ 0 →
      K249 y11 y12 (-8) σ_36)) σ)
def wp_Model_rename_b323 (cf : Cf) (tv : Nat → Int) (x1 : Int) (x2 : Int) (x4 : Int) (x5 : Int) (Q : Int → St → Prop) (K328 : Int → Int → Int → St → Prop) (y11 : Int) (t0 : Int) (σ : St) : Prop :=
  K328 y11 1 t0 σ
def wp_Model_rename_b327 (cf : Cf) (tv : Nat → Int) (x1 : Int) (x2 : Int) (x4 : Int) (x5 : Int) (Q : Int → St → Prop) (K328 : Int → Int → Int → St → Prop) (y11 : Int) (t0 : Int) (σ : St) : Prop :=
  K328 y11 0 t0 σ
def wp_Model_rename_b328 (cf : Cf) (tv : Nat → Int) (x1 : Int) (x2 : Int) (x4 : Int) (x5 : Int) (Q : Int → St → Prop) (y11 : Int) (t0 : Int) (t1 : Int) (σ : St) : Prop :=
  ((0 : Int) ≤ t1 ∧ t1 < 8) ∧
  ∀ σ_37, σ_37 = sA σ 737 0 t1 t0 →
  wp_Model_hand cf tv (w32 ((if x1 = x4 then (144 : Int) else (192 : Int)) + (if y11 = (-1) then (0 : Int) else (48 : Int)))) (fun σ_39 => RK σ_39 →
  Q (if y11 = (-1) then (0 : Int) else (1 : Int)) σ_39) σ_37
def wp_Model_rename_b249 (cf : Cf) (tv : Nat → Int) (x1 : Int) (x2 : Int) (x4 : Int) (x5 : Int) (Q : Int → St → Prop) (K259 : Int → Int → St → Prop) (y11 : Int) (y12 : Int) (t0 : Int) (σ : St) : Prop :=
  (t0 = 0 →
    K259 y11 y12 σ) ∧
  (¬ t0 = 0 →
    Q t0 σ)
def wp_Model_rename_b259 (cf : Cf) (tv : Nat → Int) (x1 : Int) (x2 : Int) (x4 : Int) (x5 : Int) (Q : Int → St → Prop) (y11 : Int) (y12 : Int) (σ : St) : Prop :=
  wp_Model_group cf tv 5 x1 x4 (fun r_40 σ_41 => rI r_40 → RK σ_41 →
  ((0 : Int) ≤ r_40 ∧ r_40 < 8) ∧
  ∀ σ_42, σ_42 = sA σ_41 738 0 r_40 x2 →
  ((0 : Int) ≤ r_40 ∧ r_40 < 8) ∧
  ∀ σ_43, σ_43 = sA σ_42 739 0 r_40 x5 →
  (y11 = (-1) →
    wp_Model_rename_b327 cf tv x1 x2 x4 x5 Q (wp_Model_rename_b328 cf tv x1 x2 x4 x5 Q) y11 r_40 σ_43) ∧
  (¬ y11 = (-1) →
    (¬ y12 = 0 →
      wp_Model_rename_b323 cf tv x1 x2 x4 x5 Q (wp_Model_rename_b328 cf tv x1 x2 x4 x5 Q) y11 r_40 σ_43) ∧
    (y12 = 0 →
      wp_Model_links cf tv 0 y11 (fun r_44 σ_45 => rI r_44 → RK σ_45 →
      (¬ r_44 = 1 →
        wp_Model_rename_b327 cf tv x1 x2 x4 x5 Q (wp_Model_rename_b328 cf tv x1 x2 x4 x5 Q) y11 r_40 σ_45) ∧
      (r_44 = 1 →
        wp_Model_isOpen cf tv y11 (fun r_46 σ_47 => rZ r_46 → RK σ_47 →
        (¬ r_46 = 0 →
          wp_Model_rename_b327 cf tv x1 x2 x4 x5 Q (wp_Model_rename_b328 cf tv x1 x2 x4 x5 Q) y11 r_40 σ_47) ∧
        (r_46 = 0 →
          wp_Model_rename_b323 cf tv x1 x2 x4 x5 Q (wp_Model_rename_b328 cf tv x1 x2 x4 x5 Q) y11 r_40 σ_47)) σ_45)) σ_43))) σ
def wp_Model_rename_b213 (cf : Cf) (tv : Nat → Int) (x1 : Int) (x2 : Int) (x4 : Int) (x5 : Int) (Q : Int → St → Prop) (K249 : Int → Int → Int → St → Prop) (y11 : Int) (y12 : Int) (y13 : Int) (σ : St) : Prop :=
  (¬ y12 = 0 →
    wp_Model_rename_b228 cf tv x1 x2 x4 x5 Q K249 y11 y12 y13 σ) ∧
  (y12 = 0 →
    (y13 = 0 →
      wp_Model_rename_b228 cf tv x1 x2 x4 x5 Q K249 y11 y12 y13 σ) ∧
    (¬ y13 = 0 →
      K249 y11 y12 (-7) σ))
def wp_Model_rename_b169 (cf : Cf) (tv : Nat → Int) (x1 : Int) (x2 : Int) (x4 : Int) (x5 : Int) (Q : Int → St → Prop) (y11 : Int) (y12 : Int) (σ : St) : Prop :=
  (y11 = (-1) →
    wp_Model_rename_b259 cf tv x1 x2 x4 x5 Q y11 y12 σ) ∧
  (¬ y11 = (-1) →
    wp_Model_nodeOf cf tv 0 y11 (fun r_48 σ_49 => rI r_48 → RK σ_49 →
    ((0 : Int) ≤ r_48 ∧ r_48 < 1400) ∧
    ∀ y13_50, y13_50 = (if (gA σ_49 715 0 r_48) = 1 then (1 : Int) else (0 : Int)) →
    (y12 = 0 →
      wp_Model_rename_b213 cf tv x1 x2 x4 x5 Q (wp_Model_rename_b249 cf tv x1 x2 x4 x5 Q (wp_Model_rename_b259 cf tv x1 x2 x4 x5 Q)) y11 y12 y13_50 σ_49) ∧
    (¬ y12 = 0 →
      (¬ y13_50 = 0 →
        wp_Model_rename_b213 cf tv x1 x2 x4 x5 Q (wp_Model_rename_b249 cf tv x1 x2 x4 x5 Q (wp_Model_rename_b259 cf tv x1 x2 x4 x5 Q)) y11 y12 y13_50 σ_49) ∧
      (y13_50 = 0 →
        wp_Model_rename_b249 cf tv x1 x2 x4 x5 Q (wp_Model_rename_b259 cf tv x1 x2 x4 x5 Q) y11 y12 (-6) σ_49))) σ)
def wp_Model_rename_b116 (cf : Cf) (tv : Nat → Int) (x1 : Int) (x2 : Int) (x4 : Int) (x5 : Int) (Q : Int → St → Prop) (y9 : Int) (t0 : Int) (σ : St) : Prop :=
  (¬ t0 = y9 →
    wp_Model_nodeOf cf tv 0 y9 (fun r_51 σ_52 => rI r_51 → RK σ_52 →
    ((0 : Int) ≤ r_51 ∧ r_51 < 1400) ∧
    ∀ y12_53, y12_53 = (if (gA σ_52 715 0 r_51) = 1 then (1 : Int) else (0 : Int)) →
    (y12_53 = 0 →
      wp_Model_rename_b169 cf tv x1 x2 x4 x5 Q t0 y12_53 σ_52) ∧
    (¬ y12_53 = 0 →
      wp_Model_isIn cf tv x4 y9 (fun r_54 σ_55 => rZ r_54 → RK σ_55 →
      (r_54 = 0 →
        wp_Model_rename_b169 cf tv x1 x2 x4 x5 Q t0 y12_53 σ_55) ∧
      (¬ r_54 = 0 →
        Q (-9) σ_55)) σ_52)) σ) ∧
  (t0 = y9 →
    Q 0 σ)
def wp_Model_rename_b35 (cf : Cf) (tv : Nat → Int) (x1 : Int) (x2 : Int) (x4 : Int) (x5 : Int) (Q : Int → St → Prop) (t0 : Int) (σ : St) : Prop :=
  (t0 = 0 →
    wp_Model_entryOf cf tv 0 x1 x2 (fun r_56 σ_57 => rI r_56 → RK σ_57 →
    (¬ r_56 = (-1) →
      wp_Model_askDirectory cf tv x4 (fun r_58 σ_59 => rI r_58 → RK σ_59 →
      (r_58 = 0 →
        ((0 : Int) ≤ r_56 ∧ r_56 < 1400) ∧
        ∀ y9_60, y9_60 = gA σ_59 720 0 r_56 →
        wp_Model_entryOf cf tv 0 x4 x5 (fun r_61 σ_62 => rI r_61 → RK σ_62 →
        (¬ r_61 = (-1) →
          ((0 : Int) ≤ r_61 ∧ r_61 < 1400) ∧
          wp_Model_rename_b116 cf tv x1 x2 x4 x5 Q y9_60 (gA σ_62 720 0 r_61) σ_62) ∧
        (r_61 = (-1) →
          wp_Model_rename_b116 cf tv x1 x2 x4 x5 Q y9_60 (-1) σ_62)) σ_59) ∧
      (¬ r_58 = 0 →
        Q r_58 σ_59)) σ_57) ∧
    (r_56 = (-1) →
      Q (-4) σ_57)) σ) ∧
  (¬ t0 = 0 →
    Q t0 σ)
def wp_Model_rename_b25 (cf : Cf) (tv : Nat → Int) (x1 : Int) (x2 : Int) (x4 : Int) (x5 : Int) (Q : Int → St → Prop) (K35 : Int → St → Prop) (σ : St) : Prop :=
  K35 (-3) σ
abbrev rm_Model_rename : Room := { frames := 6, cells := 0, slots := 0, locals := 147 }
def wp_Model_rename (cf : Cf) (tv : Nat → Int) (x1 : Int) (x2 : Int) (x4 : Int) (x5 : Int) (Q : Int → St → Prop) (σ : St) : Prop :=
  (¬ (gI σ 706 0) = 0 →
    wp_Model_isName cf tv x2 (fun r_63 σ_64 => rZ r_63 → RK σ_64 →
    (r_63 = 0 →
      wp_Model_rename_b25 cf tv x1 x2 x4 x5 Q (wp_Model_rename_b35 cf tv x1 x2 x4 x5 Q) σ_64) ∧
    (¬ r_63 = 0 →
      wp_Model_isName cf tv x5 (fun r_65 σ_66 => rZ r_65 → RK σ_66 →
      (¬ r_65 = 0 →
        wp_Model_askDirectory cf tv x1 (fun r_67 σ_68 => rI r_67 → RK σ_68 →
        wp_Model_rename_b35 cf tv x1 x2 x4 x5 Q r_67 σ_68) σ_66) ∧
      (r_65 = 0 →
        wp_Model_rename_b25 cf tv x1 x2 x4 x5 Q (wp_Model_rename_b35 cf tv x1 x2 x4 x5 Q) σ_66)) σ_64)) σ) ∧
  ((gI σ 706 0) = 0 →
    Q (-2) σ)
/-! Model.swap(IJIJ)I -/
def wp_Model_swap_b183 (cf : Cf) (tv : Nat → Int) (x1 : Int) (x2 : Int) (x4 : Int) (x5 : Int) (Q : Int → St → Prop) (K184 : Int → St → Prop) (σ : St) : Prop :=
  K184 0 σ
def wp_Model_swap_b153 (cf : Cf) (tv : Nat → Int) (x1 : Int) (x2 : Int) (x4 : Int) (x5 : Int) (Q : Int → St → Prop) (K179 : St → Prop) (K184 : Int → St → Prop) (y11 : Int) (σ : St) : Prop :=
  wp_Model_nodeOf cf tv 0 y11 (fun r_29 σ_30 => rI r_29 → RK σ_30 →
  ((0 : Int) ≤ r_29 ∧ r_29 < 1400) ∧
  (¬ (gA σ_30 715 0 r_29) = 1 →
    wp_Model_swap_b183 cf tv x1 x2 x4 x5 Q K184 σ_30) ∧
  ((gA σ_30 715 0 r_29) = 1 →
    wp_Model_isIn cf tv x1 y11 (fun r_31 σ_32 => rZ r_31 → RK σ_32 →
    (r_31 = 0 →
      wp_Model_swap_b183 cf tv x1 x2 x4 x5 Q K184 σ_32) ∧
    (¬ r_31 = 0 →
      K179 σ_32)) σ_30)) σ
def wp_Model_swap_b179 (cf : Cf) (tv : Nat → Int) (x1 : Int) (x2 : Int) (x4 : Int) (x5 : Int) (Q : Int → St → Prop) (K184 : Int → St → Prop) (σ : St) : Prop :=
  K184 1 σ
def wp_Model_swap_b184 (cf : Cf) (tv : Nat → Int) (x1 : Int) (x2 : Int) (x4 : Int) (x5 : Int) (Q : Int → St → Prop) (t0 : Int) (σ : St) : Prop :=
  (t0 = 0 →
    wp_Model_group cf tv 9 x1 x4 (fun r_33 σ_34 => rI r_33 → RK σ_34 →
    ((0 : Int) ≤ r_33 ∧ r_33 < 8) ∧
    ∀ σ_35, σ_35 = sA σ_34 738 0 r_33 x2 →
    ((0 : Int) ≤ r_33 ∧ r_33 < 8) ∧
    ∀ σ_36, σ_36 = sA σ_35 739 0 r_33 x5 →
    wp_Model_hand cf tv 96 (fun σ_38 => RK σ_38 →
    Q 1 σ_38) σ_36) σ) ∧
  (¬ t0 = 0 →
    Q (-9) σ)
def wp_Model_swap_b35 (cf : Cf) (tv : Nat → Int) (x1 : Int) (x2 : Int) (x4 : Int) (x5 : Int) (Q : Int → St → Prop) (t0 : Int) (σ : St) : Prop :=
  (t0 = 0 →
    wp_Model_entryOf cf tv 0 x1 x2 (fun r_39 σ_40 => rI r_39 → RK σ_40 →
    (¬ r_39 = (-1) →
      wp_Model_askDirectory cf tv x4 (fun r_41 σ_42 => rI r_41 → RK σ_42 →
      (r_41 = 0 →
        wp_Model_entryOf cf tv 0 x4 x5 (fun r_43 σ_44 => rI r_43 → RK σ_44 →
        (¬ r_43 = (-1) →
          ((0 : Int) ≤ r_39 ∧ r_39 < 1400) ∧
          ∀ y10_45, y10_45 = gA σ_44 720 0 r_39 →
          ((0 : Int) ≤ r_43 ∧ r_43 < 1400) ∧
          ∀ y11_46, y11_46 = gA σ_44 720 0 r_43 →
          (¬ y10_45 = y11_46 →
            wp_Model_nodeOf cf tv 0 y10_45 (fun r_47 σ_48 => rI r_47 → RK σ_48 →
            ((0 : Int) ≤ r_47 ∧ r_47 < 1400) ∧
            (¬ (gA σ_48 715 0 r_47) = 1 →
              wp_Model_swap_b153 cf tv x1 x2 x4 x5 Q (wp_Model_swap_b179 cf tv x1 x2 x4 x5 Q (wp_Model_swap_b184 cf tv x1 x2 x4 x5 Q)) (wp_Model_swap_b184 cf tv x1 x2 x4 x5 Q) y11_46 σ_48) ∧
            ((gA σ_48 715 0 r_47) = 1 →
              wp_Model_isIn cf tv x4 y10_45 (fun r_49 σ_50 => rZ r_49 → RK σ_50 →
              (¬ r_49 = 0 →
                wp_Model_swap_b179 cf tv x1 x2 x4 x5 Q (wp_Model_swap_b184 cf tv x1 x2 x4 x5 Q) σ_50) ∧
              (r_49 = 0 →
                wp_Model_swap_b153 cf tv x1 x2 x4 x5 Q (wp_Model_swap_b179 cf tv x1 x2 x4 x5 Q (wp_Model_swap_b184 cf tv x1 x2 x4 x5 Q)) (wp_Model_swap_b184 cf tv x1 x2 x4 x5 Q) y11_46 σ_50)) σ_48)) σ_44) ∧
          (y10_45 = y11_46 →
            Q 0 σ_44)) ∧
        (r_43 = (-1) →
          Q (-4) σ_44)) σ_42) ∧
      (¬ r_41 = 0 →
        Q r_41 σ_42)) σ_40) ∧
    (r_39 = (-1) →
      Q (-4) σ_40)) σ) ∧
  (¬ t0 = 0 →
    Q t0 σ)
def wp_Model_swap_b25 (cf : Cf) (tv : Nat → Int) (x1 : Int) (x2 : Int) (x4 : Int) (x5 : Int) (Q : Int → St → Prop) (K35 : Int → St → Prop) (σ : St) : Prop :=
  K35 (-3) σ
abbrev rm_Model_swap : Room := { frames := 6, cells := 0, slots := 0, locals := 147 }
def wp_Model_swap (cf : Cf) (tv : Nat → Int) (x1 : Int) (x2 : Int) (x4 : Int) (x5 : Int) (Q : Int → St → Prop) (σ : St) : Prop :=
  (¬ (gI σ 706 0) = 0 →
    wp_Model_isName cf tv x2 (fun r_51 σ_52 => rZ r_51 → RK σ_52 →
    (r_51 = 0 →
      wp_Model_swap_b25 cf tv x1 x2 x4 x5 Q (wp_Model_swap_b35 cf tv x1 x2 x4 x5 Q) σ_52) ∧
    (¬ r_51 = 0 →
      wp_Model_isName cf tv x5 (fun r_53 σ_54 => rZ r_53 → RK σ_54 →
      (¬ r_53 = 0 →
        wp_Model_askDirectory cf tv x1 (fun r_55 σ_56 => rI r_55 → RK σ_56 →
        wp_Model_swap_b35 cf tv x1 x2 x4 x5 Q r_55 σ_56) σ_54) ∧
      (r_53 = 0 →
        wp_Model_swap_b25 cf tv x1 x2 x4 x5 Q (wp_Model_swap_b35 cf tv x1 x2 x4 x5 Q) σ_54)) σ_52)) σ) ∧
  ((gI σ 706 0) = 0 →
    Q (-2) σ)
/-! Model.look(IJ)I -/
def wp_Model_look_b27 (cf : Cf) (tv : Nat → Int) (x1 : Int) (x2 : Int) (Q : Int → St → Prop) (t0 : Int) (σ : St) : Prop :=
  (t0 = 0 →
    wp_Model_entryOf cf tv 0 x1 x2 (fun r_7 σ_8 => rI r_7 → RK σ_8 →
    (¬ r_7 = (-1) →
      ((0 : Int) ≤ r_7 ∧ r_7 < 1400) ∧
      Q (gA σ_8 720 0 r_7) σ_8) ∧
    (r_7 = (-1) →
      Q (-4) σ_8)) σ) ∧
  (¬ t0 = 0 →
    Q t0 σ)
abbrev rm_Model_look : Room := { frames := 2, cells := 0, slots := 0, locals := 47 }
def wp_Model_look (cf : Cf) (tv : Nat → Int) (x1 : Int) (x2 : Int) (Q : Int → St → Prop) (σ : St) : Prop :=
  (¬ (gI σ 706 0) = 0 →
    wp_Model_isName cf tv x2 (fun r_9 σ_10 => rZ r_9 → RK σ_10 →
    (¬ r_9 = 0 →
      wp_Model_askDirectory cf tv x1 (fun r_11 σ_12 => rI r_11 → RK σ_12 →
      wp_Model_look_b27 cf tv x1 x2 Q r_11 σ_12) σ_10) ∧
    (r_9 = 0 →
      wp_Model_look_b27 cf tv x1 x2 Q (-3) σ_10)) σ) ∧
  ((gI σ 706 0) = 0 →
    Q (-2) σ)
/-! Model.isBefore(JJ)Z -/
def wp_Model_isBefore_b39 (cf : Cf) (tv : Nat → Int) (x0 : Int) (x2 : Int) (Q : Int → St → Prop) (y4 : Int) (σ : St) : Prop :=
  Q (if 0 ≤ y4 then (0 : Int) else (1 : Int)) σ
def wp_Model_isBefore_L6 (cf : Cf) (tv : Nat → Int) (x0 : Int) (x2 : Int) (Q : Int → St → Prop) (K6 : Int → Int → St → Prop) (y4 : Int) (y5 : Int) (σ : St) : Prop :=
  (8 ≤ y5 →
    wp_Model_isBefore_b39 cf tv x0 x2 Q y4 σ) ∧
  (¬ 8 ≤ y5 →
    (¬ y4 = 0 →
      wp_Model_isBefore_b39 cf tv x0 x2 Q y4 σ) ∧
    (y4 = 0 →
      wp_Model_letter cf tv x0 y5 (fun r_19 σ_20 => rI r_19 → RK σ_20 →
      wp_Model_letter cf tv x2 y5 (fun r_21 σ_22 => rI r_21 → RK σ_22 →
      ∀ y4_23, y4_23 = w32 (r_19 - r_21) →
      ∀ y5_24, y5_24 = w32 (y5 + 1) →
      K6 y4_23 y5_24 σ_22) σ_20) σ))
abbrev rm_Model_isBefore : Room := { frames := 1, cells := 0, slots := 0, locals := 22 }
def wp_Model_isBefore (cf : Cf) (tv : Nat → Int) (x0 : Int) (x2 : Int) (Q : Int → St → Prop) (σ : St) : Prop :=
  lQ2 (wp_Model_isBefore_L6 cf tv x0 x2 Q) 0 0 σ
/-! Model.list(II)J -/
def wp_Model_list_b139 (cf : Cf) (tv : Nat → Int) (x1 : Int) (x2 : Int) (Q : Int → St → Prop) (K140 : Int → Int → St → Prop) (y3 : Int) (y5 : Int) (σ : St) : Prop :=
  K140 y5 y3 σ
def wp_Model_list_b140 (cf : Cf) (tv : Nat → Int) (x1 : Int) (x2 : Int) (Q : Int → St → Prop) (K26 : Int → Int → St → Prop) (y5 : Int) (t0 : Int) (σ : St) : Prop :=
  ∀ y5_22, y5_22 = w32 (y5 + 1) →
  K26 t0 y5_22 σ
def wp_Model_list_b102 (cf : Cf) (tv : Nat → Int) (x1 : Int) (x2 : Int) (Q : Int → St → Prop) (K103 : Int → Int → Int → Int → Int → St → Prop) (y3 : Int) (y5 : Int) (y7 : Int) (t0 : Int) (σ : St) : Prop :=
  K103 y3 y5 y7 0 t0 σ
def wp_Model_list_b103 (cf : Cf) (tv : Nat → Int) (x1 : Int) (x2 : Int) (Q : Int → St → Prop) (K43 : Int → Int → Int → Int → St → Prop) (y3 : Int) (y5 : Int) (y7 : Int) (t0 : Int) (t1 : Int) (σ : St) : Prop :=
  ∀ y6_23, y6_23 = w32 (t1 + t0) →
  ∀ y7_24, y7_24 = w32 (y7 + 1) →
  K43 y3 y5 y6_23 y7_24 σ
def wp_Model_list_b112 (cf : Cf) (tv : Nat → Int) (x1 : Int) (x2 : Int) (Q : Int → St → Prop) (K26 : Int → Int → St → Prop) (y3 : Int) (y5 : Int) (y6 : Int) (σ : St) : Prop :=
  ((0 : Int) ≤ y5 ∧ y5 < 1400) ∧
  (¬ (gA σ 718 0 y5) = x1 →
    wp_Model_list_b139 cf tv x1 x2 Q (wp_Model_list_b140 cf tv x1 x2 Q K26) y3 y5 σ) ∧
  ((gA σ 718 0 y5) = x1 →
    (¬ y6 = x2 →
      wp_Model_list_b139 cf tv x1 x2 Q (wp_Model_list_b140 cf tv x1 x2 Q K26) y3 y5 σ) ∧
    (y6 = x2 →
      ((0 : Int) ≤ y5 ∧ y5 < 1400) ∧
      wp_Model_list_b140 cf tv x1 x2 Q K26 y5 (gA σ 719 0 y5) σ))
def wp_Model_list_L43 (cf : Cf) (tv : Nat → Int) (x1 : Int) (x2 : Int) (Q : Int → St → Prop) (K26 : Int → Int → St → Prop) (K43 : Int → Int → Int → Int → St → Prop) (y3 : Int) (y5 : Int) (y6 : Int) (y7 : Int) (σ : St) : Prop :=
  ((0 : Int) ≤ (0 : Int) ∧ (0 : Int) < 2) ∧
  ((gA σ 717 0 0) ≤ y7 →
    wp_Model_list_b112 cf tv x1 x2 Q K26 y3 y5 y6 σ) ∧
  (¬ (gA σ 717 0 0) ≤ y7 →
    ((0 : Int) ≤ y5 ∧ y5 < 1400) ∧
    (¬ (gA σ 718 0 y5) = x1 →
      wp_Model_list_b112 cf tv x1 x2 Q K26 y3 y5 y6 σ) ∧
    ((gA σ 718 0 y5) = x1 →
      ((0 : Int) ≤ y7 ∧ y7 < 1400) ∧
      (¬ (gA σ 718 0 y7) = x1 →
        wp_Model_list_b102 cf tv x1 x2 Q (wp_Model_list_b103 cf tv x1 x2 Q K43) y3 y5 y7 y6 σ) ∧
      ((gA σ 718 0 y7) = x1 →
        ((0 : Int) ≤ y7 ∧ y7 < 1400) ∧
        ((0 : Int) ≤ y5 ∧ y5 < 1400) ∧
        wp_Model_isBefore cf tv (gA σ 719 0 y7) (gA σ 719 0 y5) (fun r_25 σ_26 => rZ r_25 → RK σ_26 →
        (r_25 = 0 →
          wp_Model_list_b102 cf tv x1 x2 Q (wp_Model_list_b103 cf tv x1 x2 Q K43) y3 y5 y7 y6 σ_26) ∧
        (¬ r_25 = 0 →
          wp_Model_list_b103 cf tv x1 x2 Q K43 y3 y5 y7 1 y6 σ_26)) σ)))
def wp_Model_list_L26 (cf : Cf) (tv : Nat → Int) (x1 : Int) (x2 : Int) (Q : Int → St → Prop) (K26 : Int → Int → St → Prop) (y3 : Int) (y5 : Int) (σ : St) : Prop :=
  ((0 : Int) ≤ (0 : Int) ∧ (0 : Int) < 2) ∧
  ((gA σ 717 0 0) ≤ y5 →
    Q y3 σ) ∧
  (¬ (gA σ 717 0 0) ≤ y5 →
    lQ4 (wp_Model_list_L43 cf tv x1 x2 Q K26) y3 y5 0 0 σ)
abbrev rm_Model_list : Room := { frames := 2, cells := 0, slots := 0, locals := 47 }
def wp_Model_list (cf : Cf) (tv : Nat → Int) (x1 : Int) (x2 : Int) (Q : Int → St → Prop) (σ : St) : Prop :=
  ((gI σ 706 0) = 0 →
    Q 0 σ) ∧
  (¬ (gI σ 706 0) = 0 →
    wp_Model_askDirectory cf tv x1 (fun r_27 σ_28 => rI r_27 → RK σ_28 →
    (¬ r_27 = 0 →
      Q 0 σ_28) ∧
    (r_27 = 0 →
      (0 ≤ x2 →
        lQ2 (wp_Model_list_L26 cf tv x1 x2 Q) 0 0 σ_28) ∧
      (¬ 0 ≤ x2 →
        Q 0 σ_28))) σ)
/-! Model.after(IJ)J -/
def wp_Model_after_b112 (cf : Cf) (tv : Nat → Int) (x1 : Int) (x2 : Int) (Q : Int → St → Prop) (K124 : Int → Int → St → Prop) (y6 : Int) (σ : St) : Prop :=
  ((0 : Int) ≤ y6 ∧ y6 < 1400) ∧
  K124 y6 (gA σ 719 0 y6) σ
def wp_Model_after_b122 (cf : Cf) (tv : Nat → Int) (x1 : Int) (x2 : Int) (Q : Int → St → Prop) (K124 : Int → Int → St → Prop) (y4 : Int) (y6 : Int) (σ : St) : Prop :=
  K124 y6 y4 σ
def wp_Model_after_b124 (cf : Cf) (tv : Nat → Int) (x1 : Int) (x2 : Int) (Q : Int → St → Prop) (K36 : Int → Int → St → Prop) (y6 : Int) (t0 : Int) (σ : St) : Prop :=
  ∀ y6_28, y6_28 = w32 (y6 + 1) →
  K36 t0 y6_28 σ
def wp_Model_after_b78 (cf : Cf) (tv : Nat → Int) (x1 : Int) (x2 : Int) (Q : Int → St → Prop) (K83 : Int → Int → Int → St → Prop) (y4 : Int) (y6 : Int) (σ : St) : Prop :=
  K83 y4 y6 1 σ
def wp_Model_after_b82 (cf : Cf) (tv : Nat → Int) (x1 : Int) (x2 : Int) (Q : Int → St → Prop) (K83 : Int → Int → Int → St → Prop) (y4 : Int) (y6 : Int) (σ : St) : Prop :=
  K83 y4 y6 0 σ
def wp_Model_after_b83 (cf : Cf) (tv : Nat → Int) (x1 : Int) (x2 : Int) (Q : Int → St → Prop) (K36 : Int → Int → St → Prop) (y4 : Int) (y6 : Int) (t0 : Int) (σ : St) : Prop :=
  (t0 = 0 →
    wp_Model_after_b122 cf tv x1 x2 Q (wp_Model_after_b124 cf tv x1 x2 Q K36) y4 y6 σ) ∧
  (¬ t0 = 0 →
    (y4 = 0 →
      wp_Model_after_b112 cf tv x1 x2 Q (wp_Model_after_b124 cf tv x1 x2 Q K36) y6 σ) ∧
    (¬ y4 = 0 →
      ((0 : Int) ≤ y6 ∧ y6 < 1400) ∧
      wp_Model_isBefore cf tv (gA σ 719 0 y6) y4 (fun r_29 σ_30 => rZ r_29 → RK σ_30 →
      (r_29 = 0 →
        wp_Model_after_b122 cf tv x1 x2 Q (wp_Model_after_b124 cf tv x1 x2 Q K36) y4 y6 σ_30) ∧
      (¬ r_29 = 0 →
        wp_Model_after_b112 cf tv x1 x2 Q (wp_Model_after_b124 cf tv x1 x2 Q K36) y6 σ_30)) σ))
def wp_Model_after_L36 (cf : Cf) (tv : Nat → Int) (x1 : Int) (x2 : Int) (Q : Int → St → Prop) (K36 : Int → Int → St → Prop) (y4 : Int) (y6 : Int) (σ : St) : Prop :=
  ((0 : Int) ≤ (0 : Int) ∧ (0 : Int) < 2) ∧
  ((gA σ 717 0 0) ≤ y6 →
    Q y4 σ) ∧
  (¬ (gA σ 717 0 0) ≤ y6 →
    ((0 : Int) ≤ y6 ∧ y6 < 1400) ∧
    (¬ (gA σ 718 0 y6) = x1 →
      wp_Model_after_b82 cf tv x1 x2 Q (wp_Model_after_b83 cf tv x1 x2 Q K36) y4 y6 σ) ∧
    ((gA σ 718 0 y6) = x1 →
      (x2 = 0 →
        wp_Model_after_b78 cf tv x1 x2 Q (wp_Model_after_b83 cf tv x1 x2 Q K36) y4 y6 σ) ∧
      (¬ x2 = 0 →
        ((0 : Int) ≤ y6 ∧ y6 < 1400) ∧
        wp_Model_isBefore cf tv x2 (gA σ 719 0 y6) (fun r_31 σ_32 => rZ r_31 → RK σ_32 →
        (r_31 = 0 →
          wp_Model_after_b82 cf tv x1 x2 Q (wp_Model_after_b83 cf tv x1 x2 Q K36) y4 y6 σ_32) ∧
        (¬ r_31 = 0 →
          wp_Model_after_b78 cf tv x1 x2 Q (wp_Model_after_b83 cf tv x1 x2 Q K36) y4 y6 σ_32)) σ)))
def wp_Model_after_b30 (cf : Cf) (tv : Nat → Int) (x1 : Int) (x2 : Int) (Q : Int → St → Prop) (σ : St) : Prop :=
  lQ2 (wp_Model_after_L36 cf tv x1 x2 Q) 0 0 σ
abbrev rm_Model_after : Room := { frames := 2, cells := 0, slots := 0, locals := 47 }
def wp_Model_after (cf : Cf) (tv : Nat → Int) (x1 : Int) (x2 : Int) (Q : Int → St → Prop) (σ : St) : Prop :=
  ((gI σ 706 0) = 0 →
    Q 0 σ) ∧
  (¬ (gI σ 706 0) = 0 →
    wp_Model_askDirectory cf tv x1 (fun r_33 σ_34 => rI r_33 → RK σ_34 →
    (¬ r_33 = 0 →
      Q 0 σ_34) ∧
    (r_33 = 0 →
      (x2 = 0 →
        wp_Model_after_b30 cf tv x1 x2 Q σ_34) ∧
      (¬ x2 = 0 →
        wp_Model_isName cf tv x2 (fun r_35 σ_36 => rZ r_35 → RK σ_36 →
        (¬ r_35 = 0 →
          wp_Model_after_b30 cf tv x1 x2 Q σ_36) ∧
        (r_35 = 0 →
          Q 0 σ_36)) σ_34))) σ)
/-! Model.feed(JI)I -/
def wp_Model_feed_L90 (cf : Cf) (tv : Nat → Int) (x1 : Int) (x3 : Int) (Q : Int → St → Prop) (K90 : Int → St → Prop) (y5 : Int) (σ : St) : Prop :=
  (x3 ≤ y5 →
    Q (gI σ 743 0) σ) ∧
  (¬ x3 ≤ y5 →
    wp_Model_letter cf tv x1 y5 (fun r_19 σ_20 => rI r_19 → RK σ_20 →
    ((0 : Int) ≤ gI σ 743 0 ∧ gI σ 743 0 < 200) ∧
    ∀ σ_21, σ_21 = sA σ_20 744 0 (gI σ 743 0) (b8 r_19) →
    ∀ σ_22, σ_22 = sI σ_21 743 0 (w32 ((gI σ_21 743 0) + 1)) →
    ∀ y5_23, y5_23 = w32 (y5 + 1) →
    K90 y5_23 σ_22) σ)
def wp_Model_feed_b64 (cf : Cf) (tv : Nat → Int) (x1 : Int) (x3 : Int) (Q : Int → St → Prop) (y4 : Int) (σ : St) : Prop :=
  (¬ y4 = 0 →
    ((w32 ((gI σ 743 0) + x3)) ≤ 200 →
      lQ1 (wp_Model_feed_L90 cf tv x1 x3 Q) 0 σ) ∧
    (¬ (w32 ((gI σ 743 0) + x3)) ≤ 200 →
      Q (-10) σ)) ∧
  (y4 = 0 →
    Q (-3) σ)
def wp_Model_feed_L31 (cf : Cf) (tv : Nat → Int) (x1 : Int) (x3 : Int) (Q : Int → St → Prop) (K31 : Int → Int → St → Prop) (y4 : Int) (y5 : Int) (σ : St) : Prop :=
  (x3 ≤ y5 →
    wp_Model_feed_b64 cf tv x1 x3 Q y4 σ) ∧
  (¬ x3 ≤ y5 →
    (y4 = 0 →
      wp_Model_feed_b64 cf tv x1 x3 Q y4 σ) ∧
    (¬ y4 = 0 →
      wp_Model_letter cf tv x1 y5 (fun r_24 σ_25 => rI r_24 → RK σ_25 →
      ∀ y4_26, y4_26 = (if r_24 = 0 then (0 : Int) else (1 : Int)) →
      ∀ y5_27, y5_27 = w32 (y5 + 1) →
      K31 y4_26 y5_27 σ_25) σ))
def wp_Model_feed_b26 (cf : Cf) (tv : Nat → Int) (x1 : Int) (x3 : Int) (Q : Int → St → Prop) (t0 : Int) (σ : St) : Prop :=
  lQ2 (wp_Model_feed_L31 cf tv x1 x3 Q) t0 0 σ
def wp_Model_feed_b25 (cf : Cf) (tv : Nat → Int) (x1 : Int) (x3 : Int) (Q : Int → St → Prop) (K26 : Int → St → Prop) (σ : St) : Prop :=
  K26 0 σ
abbrev rm_Model_feed : Room := { frames := 1, cells := 0, slots := 0, locals := 22 }
def wp_Model_feed (cf : Cf) (tv : Nat → Int) (x1 : Int) (x3 : Int) (Q : Int → St → Prop) (σ : St) : Prop :=
  (¬ (gI σ 706 0) = 0 →
    (x3 < 1 →
      wp_Model_feed_b25 cf tv x1 x3 Q (wp_Model_feed_b26 cf tv x1 x3 Q) σ) ∧
    (¬ x3 < 1 →
      (8 < x3 →
        wp_Model_feed_b25 cf tv x1 x3 Q (wp_Model_feed_b26 cf tv x1 x3 Q) σ) ∧
      (¬ 8 < x3 →
        wp_Model_feed_b26 cf tv x1 x3 Q 1 σ))) ∧
  ((gI σ 706 0) = 0 →
    Q (-2) σ)
/-! Model.taped(I)I -/
abbrev rm_Model_taped : Room := { frames := 0, cells := 0, slots := 0, locals := 0 }
def wp_Model_taped (cf : Cf) (tv : Nat → Int) (x1 : Int) (Q : Int → St → Prop) (σ : St) : Prop :=
  (¬ (gI σ 706 0) = 0 →
    (x1 < 0 →
      Q (-1) σ) ∧
    (¬ x1 < 0 →
      ((gI σ 743 0) ≤ x1 →
        Q (-1) σ) ∧
      (¬ (gI σ 743 0) ≤ x1 →
        ((0 : Int) ≤ x1 ∧ x1 < 200) ∧
        Q (iand (gA σ 744 0 x1) 255) σ))) ∧
  ((gI σ 706 0) = 0 →
    Q (-2) σ)
/-! Model.byteOf(II)I -/
def wp_Model_byteOf_b29 (cf : Cf) (tv : Nat → Int) (x1 : Int) (x2 : Int) (Q : Int → St → Prop) (σ : St) : Prop :=
  Q 0 σ
abbrev rm_Model_byteOf : Room := { frames := 1, cells := 0, slots := 0, locals := 25 }
def wp_Model_byteOf (cf : Cf) (tv : Nat → Int) (x1 : Int) (x2 : Int) (Q : Int → St → Prop) (σ : St) : Prop :=
  wp_Model_pieceOf cf tv 0 x1 (jdv x2 64) (fun r_3 σ_4 => rI r_3 → RK σ_4 →
  (r_3 = (-1) →
    wp_Model_byteOf_b29 cf tv x1 x2 Q σ_4) ∧
  (¬ r_3 = (-1) →
    ((0 : Int) ≤ r_3 ∧ r_3 < 1440) ∧
    ((jrm x2 64) < (gA σ_4 728 0 r_3) →
      ((0 : Int) ≤ w32 ((w32 (64 * r_3)) + (jrm x2 64)) ∧ w32 ((w32 (64 * r_3)) + (jrm x2 64)) < 92160) ∧
      Q (iand (gA σ_4 729 0 (w32 ((w32 (64 * r_3)) + (jrm x2 64)))) 255) σ_4) ∧
    (¬ (jrm x2 64) < (gA σ_4 728 0 r_3) →
      wp_Model_byteOf_b29 cf tv x1 x2 Q σ_4))) σ
/-! Model.step(II)I -/
abbrev rm_Model_step : Room := { frames := 2, cells := 0, slots := 0, locals := 48 }
def wp_Model_step (cf : Cf) (tv : Nat → Int) (x1 : Int) (x2 : Int) (Q : Int → St → Prop) (σ : St) : Prop :=
  ((0 : Int) ≤ x1 ∧ x1 < 10) ∧
  ∀ y3_6, y3_6 = gA σ 746 0 x1 →
  (¬ y3_6 = 0 →
    wp_Model_nodeOf cf tv 0 y3_6 (fun r_7 σ_8 => rI r_7 → RK σ_8 →
    ((0 : Int) ≤ r_7 ∧ r_7 < 1400) ∧
    ((gA σ_8 716 0 r_7) ≤ x2 →
      Q (-1) σ_8) ∧
    (¬ (gA σ_8 716 0 r_7) ≤ x2 →
      wp_Model_byteOf cf tv y3_6 x2 (fun r_9 σ_10 => rI r_9 → RK σ_10 →
      Q r_9 σ_10) σ_8)) σ) ∧
  (y3_6 = 0 →
    ((gI σ 743 0) ≤ x2 →
      Q (-1) σ) ∧
    (¬ (gI σ 743 0) ≤ x2 →
      ((0 : Int) ≤ x2 ∧ x2 < 200) ∧
      Q (iand (gA σ 744 0 x2) 255) σ))
/-! Model.isMore()Z -/
def wp_Model_isMore_b49 (cf : Cf) (tv : Nat → Int) (Q : Int → St → Prop) (K19 : Int → Int → Int → St → Prop) (y2 : Int) (y3 : Int) (t0 : Int) (σ : St) : Prop :=
  ∀ y3_22, y3_22 = w32 (y3 + 1) →
  K19 t0 y2 y3_22 σ
def wp_Model_isMore_b44 (cf : Cf) (tv : Nat → Int) (Q : Int → St → Prop) (K49 : Int → Int → Int → St → Prop) (y2 : Int) (y3 : Int) (σ : St) : Prop :=
  K49 y2 y3 1 σ
def wp_Model_isMore_L19 (cf : Cf) (tv : Nat → Int) (Q : Int → St → Prop) (K4 : Int → Int → St → Prop) (K19 : Int → Int → Int → St → Prop) (y1 : Int) (y2 : Int) (y3 : Int) (σ : St) : Prop :=
  wp_Model_step cf tv y2 y3 (fun r_23 σ_24 => rI r_23 → RK σ_24 →
  (r_23 = (-1) →
    ∀ y2_25, y2_25 = w32 (y2 + 1) →
    K4 y1 y2_25 σ_24) ∧
  (¬ r_23 = (-1) →
    (¬ y1 = 0 →
      wp_Model_isMore_b44 cf tv Q (wp_Model_isMore_b49 cf tv Q K19) y2 y3 σ_24) ∧
    (y1 = 0 →
      wp_Model_step cf tv y2 y3 (fun r_26 σ_27 => rI r_26 → RK σ_27 →
      (r_26 = 47 →
        wp_Model_isMore_b49 cf tv Q K19 y2 y3 0 σ_27) ∧
      (¬ r_26 = 47 →
        wp_Model_isMore_b44 cf tv Q (wp_Model_isMore_b49 cf tv Q K19) y2 y3 σ_27)) σ_24))) σ
def wp_Model_isMore_L4 (cf : Cf) (tv : Nat → Int) (Q : Int → St → Prop) (K4 : Int → Int → St → Prop) (y1 : Int) (y2 : Int) (σ : St) : Prop :=
  ((gI σ 745 0) < y2 →
    Q y1 σ) ∧
  (¬ (gI σ 745 0) < y2 →
    ((0 : Int) ≤ y2 ∧ y2 < 10) ∧
    ∀ y3_28, y3_28 = gA σ 747 0 y2 →
    lQ3 (wp_Model_isMore_L19 cf tv Q K4) y1 y2 y3_28 σ)
abbrev rm_Model_isMore : Room := { frames := 3, cells := 0, slots := 0, locals := 71 }
def wp_Model_isMore (cf : Cf) (tv : Nat → Int) (Q : Int → St → Prop) (σ : St) : Prop :=
  lQ2 (wp_Model_isMore_L4 cf tv Q) 0 0 σ
/-! Model.holderOf(I)I -/
def wp_Model_holderOf_b34 (cf : Cf) (tv : Nat → Int) (x1 : Int) (Q : Int → St → Prop) (K4 : Int → Int → St → Prop) (y3 : Int) (t0 : Int) (σ : St) : Prop :=
  ∀ y3_4, y3_4 = w32 (y3 + 1) →
  K4 t0 y3_4 σ
def wp_Model_holderOf_L4 (cf : Cf) (tv : Nat → Int) (x1 : Int) (Q : Int → St → Prop) (K4 : Int → Int → St → Prop) (y2 : Int) (y3 : Int) (σ : St) : Prop :=
  ((0 : Int) ≤ (0 : Int) ∧ (0 : Int) < 2) ∧
  ((gA σ 717 0 0) ≤ y3 →
    Q y2 σ) ∧
  (¬ (gA σ 717 0 0) ≤ y3 →
    ((0 : Int) ≤ y3 ∧ y3 < 1400) ∧
    (¬ (gA σ 720 0 y3) = x1 →
      wp_Model_holderOf_b34 cf tv x1 Q K4 y3 y2 σ) ∧
    ((gA σ 720 0 y3) = x1 →
      ((0 : Int) ≤ y3 ∧ y3 < 1400) ∧
      wp_Model_holderOf_b34 cf tv x1 Q K4 y3 (gA σ 718 0 y3) σ))
abbrev rm_Model_holderOf : Room := { frames := 0, cells := 0, slots := 0, locals := 0 }
def wp_Model_holderOf (cf : Cf) (tv : Nat → Int) (x1 : Int) (Q : Int → St → Prop) (σ : St) : Prop :=
  lQ2 (wp_Model_holderOf_L4 cf tv x1 Q) 1 0 σ
/-! Model.goPart(Z)I -/
def wp_Model_goPart_b422 (cf : Cf) (tv : Nat → Int) (x1 : Int) (Q : Int → St → Prop) (t0 : Int) (σ : St) : Prop :=
  ∀ σ_95, σ_95 = sI σ 748 0 t0 →
  Q 0 σ_95
def wp_Model_goPart_b340 (cf : Cf) (tv : Nat → Int) (x1 : Int) (Q : Int → St → Prop) (y10 : Int) (σ : St) : Prop :=
  ∀ σ_96, σ_96 = sI σ 748 0 y10 →
  Q 0 σ_96
def wp_Model_goPart_b348 (cf : Cf) (tv : Nat → Int) (x1 : Int) (Q : Int → St → Prop) (y10 : Int) (σ : St) : Prop :=
  ∀ σ_97, σ_97 = sI σ 749 0 (w32 ((gI σ 749 0) + 1)) →
  (¬ (gI σ_97 749 0) = 9 →
    ∀ σ_98, σ_98 = sI σ_97 745 0 (w32 ((gI σ_97 745 0) + 1)) →
    ((0 : Int) ≤ gI σ_98 745 0 ∧ gI σ_98 745 0 < 10) ∧
    ∀ σ_99, σ_99 = sA σ_98 746 0 (gI σ_98 745 0) y10 →
    ((0 : Int) ≤ gI σ_99 745 0 ∧ gI σ_99 745 0 < 10) ∧
    ∀ σ_100, σ_100 = sA σ_99 747 0 (gI σ_99 745 0) 0 →
    wp_Model_byteOf cf tv y10 0 (fun r_101 σ_102 => rI r_101 → RK σ_102 →
    (¬ r_101 = 47 →
      wp_Model_goPart_b422 cf tv x1 Q (gI σ_102 748 0) σ_102) ∧
    (r_101 = 47 →
      wp_Model_goPart_b422 cf tv x1 Q 1 σ_102)) σ_100) ∧
  ((gI σ_97 749 0) = 9 →
    Q (-9) σ_97)
def wp_Model_goPart_L248 (cf : Cf) (tv : Nat → Int) (x1 : Int) (Q : Int → St → Prop) (K248 : Int → Int → Int → Int → Int → St → Prop) (y2 : Int) (y3 : Int) (y6 : Int) (y7 : Int) (y9 : Int) (σ : St) : Prop :=
  (y6 ≤ y9 →
    wp_Model_entryOf cf tv 0 (gI σ 748 0) y7 (fun r_103 σ_104 => rI r_103 → RK σ_104 →
    (¬ r_103 = (-1) →
      ((0 : Int) ≤ r_103 ∧ r_103 < 1400) ∧
      ∀ y10_105, y10_105 = gA σ_104 720 0 r_103 →
      wp_Model_nodeOf cf tv 0 y10_105 (fun r_106 σ_107 => rI r_106 → RK σ_107 →
      ((0 : Int) ≤ r_106 ∧ r_106 < 1400) ∧
      (¬ (gA σ_107 715 0 r_106) = 3 →
        wp_Model_goPart_b340 cf tv x1 Q y10_105 σ_107) ∧
      ((gA σ_107 715 0 r_106) = 3 →
        (¬ x1 = 0 →
          wp_Model_goPart_b348 cf tv x1 Q y10_105 σ_107) ∧
        (x1 = 0 →
          wp_Model_isMore cf tv (fun r_108 σ_109 => rZ r_108 → RK σ_109 →
          (¬ r_108 = 0 →
            wp_Model_goPart_b348 cf tv x1 Q y10_105 σ_109) ∧
          (r_108 = 0 →
            wp_Model_goPart_b340 cf tv x1 Q y10_105 σ_109)) σ_107))) σ_104) ∧
    (r_103 = (-1) →
      Q (-4) σ_104)) σ) ∧
  (¬ y6 ≤ y9 →
    wp_Model_step cf tv y2 (w32 (y3 + y9)) (fun r_110 σ_111 => rI r_110 → RK σ_111 →
    ∀ y7_112, y7_112 = lor y7 (lshl r_110 (w32 (8 * y9))) →
    ∀ y9_113, y9_113 = w32 (y9 + 1) →
    K248 y2 y3 y6 y7_112 y9_113 σ_111) σ)
def wp_Model_goPart_b232 (cf : Cf) (tv : Nat → Int) (x1 : Int) (Q : Int → St → Prop) (y2 : Int) (y3 : Int) (y6 : Int) (σ : St) : Prop :=
  (y6 ≤ 8 →
    lQ5 (wp_Model_goPart_L248 cf tv x1 Q) y2 y3 y6 0 0 σ) ∧
  (¬ y6 ≤ 8 →
    Q (-3) σ)
def wp_Model_goPart_b188 (cf : Cf) (tv : Nat → Int) (x1 : Int) (Q : Int → St → Prop) (y2 : Int) (y3 : Int) (y6 : Int) (σ : St) : Prop :=
  (¬ y6 = 2 →
    wp_Model_goPart_b232 cf tv x1 Q y2 y3 y6 σ) ∧
  (y6 = 2 →
    wp_Model_step cf tv y2 y3 (fun r_114 σ_115 => rI r_114 → RK σ_115 →
    (¬ r_114 = 46 →
      wp_Model_goPart_b232 cf tv x1 Q y2 y3 y6 σ_115) ∧
    (r_114 = 46 →
      wp_Model_step cf tv y2 (w32 (y3 + 1)) (fun r_116 σ_117 => rI r_116 → RK σ_117 →
      (¬ r_116 = 46 →
        wp_Model_goPart_b232 cf tv x1 Q y2 y3 y6 σ_117) ∧
      (r_116 = 46 →
        wp_Model_holderOf cf tv (gI σ_117 748 0) (fun r_118 σ_119 => rI r_118 → RK σ_119 →
        ∀ σ_120, σ_120 = sI σ_119 748 0 r_118 →
        Q 0 σ_120) σ_117)) σ_115)) σ)
def wp_Model_goPart_b137 (cf : Cf) (tv : Nat → Int) (x1 : Int) (Q : Int → St → Prop) (y2 : Int) (y3 : Int) (y4 : Int) (σ : St) : Prop :=
  ((0 : Int) ≤ y2 ∧ y2 < 10) ∧
  ∀ σ_121, σ_121 = sA σ 747 0 y2 y4 →
  wp_Model_askDirectory cf tv (gI σ_121 748 0) (fun r_122 σ_123 => rI r_122 → RK σ_123 →
  (r_122 = 0 →
    ∀ y6_124, y6_124 = w32 (y4 - y3) →
    (¬ y6_124 = 1 →
      wp_Model_goPart_b188 cf tv x1 Q y2 y3 y6_124 σ_123) ∧
    (y6_124 = 1 →
      wp_Model_step cf tv y2 y3 (fun r_125 σ_126 => rI r_125 → RK σ_126 →
      (¬ r_125 = 46 →
        wp_Model_goPart_b188 cf tv x1 Q y2 y3 y6_124 σ_126) ∧
      (r_125 = 46 →
        Q 0 σ_126)) σ_123)) ∧
  (¬ r_122 = 0 →
    Q r_122 σ_123)) σ_121
def wp_Model_goPart_b43 (cf : Cf) (tv : Nat → Int) (x1 : Int) (Q : Int → St → Prop) (K0 : St → Prop) (σ : St) : Prop :=
  ((0 : Int) ≤ gI σ 745 0 ∧ gI σ 745 0 < 10) ∧
  wp_Model_step cf tv (gI σ 745 0) (gA σ 747 0 (gI σ 745 0)) (fun r_127 σ_128 => rI r_127 → RK σ_128 →
  (¬ r_127 = (-1) →
    ((0 : Int) ≤ gI σ_128 745 0 ∧ gI σ_128 745 0 < 10) ∧
    ((0 : Int) ≤ gI σ_128 745 0 ∧ gI σ_128 745 0 < 10) ∧
    ∀ σ_129, σ_129 = sA σ_128 747 0 (gI σ_128 745 0) (w32 ((gA σ_128 747 0 (gI σ_128 745 0)) + 1)) →
    K0 σ_129) ∧
  (r_127 = (-1) →
    ∀ σ_130, σ_130 = sI σ_128 745 0 (w32 ((gI σ_128 745 0) - 1)) →
    K0 σ_130)) σ
def wp_Model_goPart_L108 (cf : Cf) (tv : Nat → Int) (x1 : Int) (Q : Int → St → Prop) (K108 : Int → Int → Int → St → Prop) (y2 : Int) (y3 : Int) (y4 : Int) (σ : St) : Prop :=
  wp_Model_step cf tv y2 y4 (fun r_131 σ_132 => rI r_131 → RK σ_132 →
  (r_131 = (-1) →
    wp_Model_goPart_b137 cf tv x1 Q y2 y3 y4 σ_132) ∧
  (¬ r_131 = (-1) →
    wp_Model_step cf tv y2 y4 (fun r_133 σ_134 => rI r_133 → RK σ_134 →
    (r_133 = 47 →
      wp_Model_goPart_b137 cf tv x1 Q y2 y3 y4 σ_134) ∧
    (¬ r_133 = 47 →
      ∀ y4_135, y4_135 = w32 (y4 + 1) →
      K108 y2 y3 y4_135 σ_134)) σ_132)) σ
def wp_Model_goPart_L0 (cf : Cf) (tv : Nat → Int) (x1 : Int) (Q : Int → St → Prop) (K0 : St → Prop) (σ : St) : Prop :=
  ((0 : Int) ≤ gI σ 745 0 ∧ gI σ 745 0 < 10) ∧
  wp_Model_step cf tv (gI σ 745 0) (gA σ 747 0 (gI σ 745 0)) (fun r_136 σ_137 => rI r_136 → RK σ_137 →
  (r_136 = (-1) →
    wp_Model_goPart_b43 cf tv x1 Q K0 σ_137) ∧
  (¬ r_136 = (-1) →
    ((0 : Int) ≤ gI σ_137 745 0 ∧ gI σ_137 745 0 < 10) ∧
    wp_Model_step cf tv (gI σ_137 745 0) (gA σ_137 747 0 (gI σ_137 745 0)) (fun r_138 σ_139 => rI r_138 → RK σ_139 →
    (¬ r_138 = 47 →
      ∀ y2_140, y2_140 = gI σ_139 745 0 →
      ((0 : Int) ≤ y2_140 ∧ y2_140 < 10) ∧
      ∀ y3_141, y3_141 = gA σ_139 747 0 y2_140 →
      lQ3 (wp_Model_goPart_L108 cf tv x1 Q) y2_140 y3_141 y3_141 σ_139) ∧
    (r_138 = 47 →
      wp_Model_goPart_b43 cf tv x1 Q K0 σ_139)) σ_137)) σ
abbrev rm_Model_goPart : Room := { frames := 4, cells := 0, slots := 0, locals := 94 }
def wp_Model_goPart (cf : Cf) (tv : Nat → Int) (x1 : Int) (Q : Int → St → Prop) (σ : St) : Prop :=
  lQ0 (wp_Model_goPart_L0 cf tv x1 Q) σ
/-! Model.walk(IZ)I -/
def wp_Model_walk_b87 (cf : Cf) (tv : Nat → Int) (x1 : Int) (x2 : Int) (Q : Int → St → Prop) (y3 : Int) (σ : St) : Prop :=
  ∀ σ_25, σ_25 = sI σ 743 0 0 →
  (¬ y3 = 0 →
    Q y3 σ_25) ∧
  (y3 = 0 →
    Q (gI σ_25 748 0) σ_25)
def wp_Model_walk_L67 (cf : Cf) (tv : Nat → Int) (x1 : Int) (x2 : Int) (Q : Int → St → Prop) (K67 : Int → St → Prop) (y3 : Int) (σ : St) : Prop :=
  (¬ y3 = 0 →
    wp_Model_walk_b87 cf tv x1 x2 Q y3 σ) ∧
  (y3 = 0 →
    wp_Model_isMore cf tv (fun r_26 σ_27 => rZ r_26 → RK σ_27 →
    (r_26 = 0 →
      wp_Model_walk_b87 cf tv x1 x2 Q y3 σ_27) ∧
    (¬ r_26 = 0 →
      wp_Model_goPart cf tv x2 (fun r_28 σ_29 => rI r_28 → RK σ_29 →
      K67 r_28 σ_29) σ_27)) σ)
def wp_Model_walk_b64 (cf : Cf) (tv : Nat → Int) (x1 : Int) (x2 : Int) (Q : Int → St → Prop) (y3 : Int) (t0 : Int) (σ : St) : Prop :=
  ∀ σ_30, σ_30 = sI σ 748 0 t0 →
  lQ1 (wp_Model_walk_L67 cf tv x1 x2 Q) y3 σ_30
def wp_Model_walk_b63 (cf : Cf) (tv : Nat → Int) (x1 : Int) (x2 : Int) (Q : Int → St → Prop) (K64 : Int → Int → St → Prop) (y3 : Int) (σ : St) : Prop :=
  K64 y3 x1 σ
abbrev rm_Model_walk : Room := { frames := 5, cells := 0, slots := 0, locals := 124 }
def wp_Model_walk (cf : Cf) (tv : Nat → Int) (x1 : Int) (x2 : Int) (Q : Int → St → Prop) (σ : St) : Prop :=
  (¬ (gI σ 706 0) = 0 →
    wp_Model_askDirectory cf tv x1 (fun r_31 σ_32 => rI r_31 → RK σ_32 →
    ∀ σ_33, σ_33 = sI σ_32 745 0 0 →
    ((0 : Int) ≤ (0 : Int) ∧ (0 : Int) < 10) ∧
    ∀ σ_34, σ_34 = sA σ_33 746 0 0 0 →
    ((0 : Int) ≤ (0 : Int) ∧ (0 : Int) < 10) ∧
    ∀ σ_35, σ_35 = sA σ_34 747 0 0 0 →
    ∀ σ_36, σ_36 = sI σ_35 749 0 0 →
    ((gI σ_36 743 0) ≤ 0 →
      wp_Model_walk_b63 cf tv x1 x2 Q (wp_Model_walk_b64 cf tv x1 x2 Q) r_31 σ_36) ∧
    (¬ (gI σ_36 743 0) ≤ 0 →
      ((0 : Int) ≤ (0 : Int) ∧ (0 : Int) < 200) ∧
      (¬ (gA σ_36 744 0 0) = 47 →
        wp_Model_walk_b63 cf tv x1 x2 Q (wp_Model_walk_b64 cf tv x1 x2 Q) r_31 σ_36) ∧
      ((gA σ_36 744 0 0) = 47 →
        wp_Model_walk_b64 cf tv x1 x2 Q r_31 1 σ_36))) σ) ∧
  ((gI σ 706 0) = 0 →
    Q (-2) σ)
/-! Model.nameOf(I)J -/
def wp_Model_nameOf_b38 (cf : Cf) (tv : Nat → Int) (x1 : Int) (Q : Int → St → Prop) (K5 : Int → Int → St → Prop) (y4 : Int) (t0 : Int) (σ : St) : Prop :=
  ∀ y4_4, y4_4 = w32 (y4 + 1) →
  K5 t0 y4_4 σ
def wp_Model_nameOf_L5 (cf : Cf) (tv : Nat → Int) (x1 : Int) (Q : Int → St → Prop) (K5 : Int → Int → St → Prop) (y2 : Int) (y4 : Int) (σ : St) : Prop :=
  ((0 : Int) ≤ (0 : Int) ∧ (0 : Int) < 2) ∧
  ((gA σ 717 0 0) ≤ y4 →
    Q y2 σ) ∧
  (¬ (gA σ 717 0 0) ≤ y4 →
    ((0 : Int) ≤ y4 ∧ y4 < 1400) ∧
    (¬ (gA σ 720 0 y4) = x1 →
      wp_Model_nameOf_b38 cf tv x1 Q K5 y4 y2 σ) ∧
    ((gA σ 720 0 y4) = x1 →
      ((0 : Int) ≤ y4 ∧ y4 < 1400) ∧
      wp_Model_nameOf_b38 cf tv x1 Q K5 y4 (gA σ 719 0 y4) σ))
abbrev rm_Model_nameOf : Room := { frames := 0, cells := 0, slots := 0, locals := 0 }
def wp_Model_nameOf (cf : Cf) (tv : Nat → Int) (x1 : Int) (Q : Int → St → Prop) (σ : St) : Prop :=
  lQ2 (wp_Model_nameOf_L5 cf tv x1 Q) 0 0 σ
/-! Model.lengthOf(J)I -/
def wp_Model_lengthOf_L4 (cf : Cf) (tv : Nat → Int) (x0 : Int) (Q : Int → St → Prop) (K4 : Int → Int → St → Prop) (y2 : Int) (y3 : Int) (σ : St) : Prop :=
  (8 ≤ y3 →
    Q y2 σ) ∧
  (¬ 8 ≤ y3 →
    wp_Model_letter cf tv x0 y3 (fun r_9 σ_10 => rI r_9 → RK σ_10 →
    ∀ y2_11, y2_11 = w32 (y2 + (if r_9 = 0 then (0 : Int) else (1 : Int))) →
    ∀ y3_12, y3_12 = w32 (y3 + 1) →
    K4 y2_11 y3_12 σ_10) σ)
abbrev rm_Model_lengthOf : Room := { frames := 1, cells := 0, slots := 0, locals := 22 }
def wp_Model_lengthOf (cf : Cf) (tv : Nat → Int) (x0 : Int) (Q : Int → St → Prop) (σ : St) : Prop :=
  lQ2 (wp_Model_lengthOf_L4 cf tv x0 Q) 0 0 σ
/-! Model.path(I)I -/
def wp_Model_path_L120 (cf : Cf) (tv : Nat → Int) (x1 : Int) (Q : Int → St → Prop) (K96 : Int → Int → Int → St → Prop) (K120 : Int → Int → Int → Int → Int → Int → St → Prop) (y3 : Int) (y4 : Int) (y5 : Int) (y6 : Int) (y8 : Int) (y9 : Int) (σ : St) : Prop :=
  (y8 ≤ y9 →
    ∀ y4_73, y4_73 = w32 (y4 - (w32 (y8 + 1))) →
    ((0 : Int) ≤ y4_73 ∧ y4_73 < 200) ∧
    ∀ σ_74, σ_74 = sA σ 744 0 y4_73 47 →
    wp_Model_holderOf cf tv y5 (fun r_75 σ_76 => rI r_75 → RK σ_76 →
    K96 y3 y4_73 r_75 σ_76) σ_74) ∧
  (¬ y8 ≤ y9 →
    wp_Model_letter cf tv y6 y9 (fun r_77 σ_78 => rI r_77 → RK σ_78 →
    ((0 : Int) ≤ w32 ((w32 (y4 - y8)) + y9) ∧ w32 ((w32 (y4 - y8)) + y9) < 200) ∧
    ∀ σ_79, σ_79 = sA σ_78 744 0 (w32 ((w32 (y4 - y8)) + y9)) (b8 r_77) →
    ∀ y9_80, y9_80 = w32 (y9 + 1) →
    K120 y3 y4 y5 y6 y8 y9_80 σ_79) σ)
def wp_Model_path_L96 (cf : Cf) (tv : Nat → Int) (x1 : Int) (Q : Int → St → Prop) (K96 : Int → Int → Int → St → Prop) (y3 : Int) (y4 : Int) (y5 : Int) (σ : St) : Prop :=
  (y5 = 1 →
    Q y3 σ) ∧
  (¬ y5 = 1 →
    wp_Model_nameOf cf tv y5 (fun r_81 σ_82 => rJ r_81 → RK σ_82 →
    wp_Model_lengthOf cf tv r_81 (fun r_83 σ_84 => rI r_83 → RK σ_84 →
    lQ6 (wp_Model_path_L120 cf tv x1 Q K96) y3 y4 y5 r_81 r_83 0 σ_84) σ_82) σ)
def wp_Model_path_L36 (cf : Cf) (tv : Nat → Int) (x1 : Int) (Q : Int → St → Prop) (K36 : Int → Int → St → Prop) (y3 : Int) (y4 : Int) (σ : St) : Prop :=
  (y4 = 1 →
    (y3 ≤ 200 →
      ∀ σ_85, σ_85 = sI σ 743 0 y3 →
      ((0 : Int) ≤ (0 : Int) ∧ (0 : Int) < 200) ∧
      ∀ σ_86, σ_86 = sA σ_85 744 0 0 47 →
      lQ3 (wp_Model_path_L96 cf tv x1 Q) y3 y3 x1 σ_86) ∧
    (¬ y3 ≤ 200 →
      Q (-10) σ)) ∧
  (¬ y4 = 1 →
    wp_Model_nameOf cf tv y4 (fun r_87 σ_88 => rJ r_87 → RK σ_88 →
    wp_Model_lengthOf cf tv r_87 (fun r_89 σ_90 => rI r_89 → RK σ_90 →
    ∀ y3_91, y3_91 = w32 (y3 + (w32 (1 + r_89))) →
    wp_Model_holderOf cf tv y4 (fun r_92 σ_93 => rI r_92 → RK σ_93 →
    K36 y3_91 r_92 σ_93) σ_90) σ_88) σ)
abbrev rm_Model_path : Room := { frames := 2, cells := 0, slots := 0, locals := 46 }
def wp_Model_path (cf : Cf) (tv : Nat → Int) (x1 : Int) (Q : Int → St → Prop) (σ : St) : Prop :=
  (¬ (gI σ 706 0) = 0 →
    wp_Model_askDirectory cf tv x1 (fun r_94 σ_95 => rI r_94 → RK σ_95 →
    (r_94 = 0 →
      ∀ y3_96, y3_96 = (if x1 = 1 then (1 : Int) else (0 : Int)) →
      lQ2 (wp_Model_path_L36 cf tv x1 Q) y3_96 x1 σ_95) ∧
    (¬ r_94 = 0 →
      Q r_94 σ_95)) σ) ∧
  ((gI σ 706 0) = 0 →
    Q (-2) σ)
/-! Model.text(II)I -/
abbrev rm_Model_text : Room := { frames := 2, cells := 0, slots := 0, locals := 48 }
def wp_Model_text (cf : Cf) (tv : Nat → Int) (x1 : Int) (x2 : Int) (Q : Int → St → Prop) (σ : St) : Prop :=
  (¬ (gI σ 706 0) = 0 →
    wp_Model_nodeOf cf tv 0 x1 (fun r_5 σ_6 => rI r_5 → RK σ_6 →
    (r_5 = (-1) →
      Q (-4) σ_6) ∧
    (¬ r_5 = (-1) →
      ((0 : Int) ≤ r_5 ∧ r_5 < 1400) ∧
      ((gA σ_6 715 0 r_5) = 3 →
        (x2 < 0 →
          Q (-1) σ_6) ∧
        (¬ x2 < 0 →
          ((0 : Int) ≤ r_5 ∧ r_5 < 1400) ∧
          ((gA σ_6 716 0 r_5) ≤ x2 →
            Q (-1) σ_6) ∧
          (¬ (gA σ_6 716 0 r_5) ≤ x2 →
            wp_Model_byteOf cf tv x1 x2 (fun r_7 σ_8 => rI r_7 → RK σ_8 →
            Q r_7 σ_8) σ_6))) ∧
      (¬ (gA σ_6 715 0 r_5) = 3 →
        Q (-4) σ_6))) σ) ∧
  ((gI σ 706 0) = 0 →
    Q (-2) σ)
/-! Model.kind(I)I -/
abbrev rm_Model_kind : Room := { frames := 1, cells := 0, slots := 0, locals := 24 }
def wp_Model_kind (cf : Cf) (tv : Nat → Int) (x1 : Int) (Q : Int → St → Prop) (σ : St) : Prop :=
  (¬ (gI σ 706 0) = 0 →
    wp_Model_nodeOf cf tv 0 x1 (fun r_3 σ_4 => rI r_3 → RK σ_4 →
    (¬ r_3 = (-1) →
      ((0 : Int) ≤ r_3 ∧ r_3 < 1400) ∧
      Q (gA σ_4 715 0 r_3) σ_4) ∧
    (r_3 = (-1) →
      Q 0 σ_4)) σ) ∧
  ((gI σ 706 0) = 0 →
    Q (-2) σ)
/-! Model.count(I)I -/
abbrev rm_Model_count : Room := { frames := 1, cells := 0, slots := 0, locals := 24 }
def wp_Model_count (cf : Cf) (tv : Nat → Int) (x1 : Int) (Q : Int → St → Prop) (σ : St) : Prop :=
  (¬ (gI σ 706 0) = 0 →
    wp_Model_nodeOf cf tv 0 x1 (fun r_7 σ_8 => rI r_7 → RK σ_8 →
    (¬ r_7 = (-1) →
      ((0 : Int) ≤ r_7 ∧ r_7 < 1400) ∧
      (¬ (gA σ_8 715 0 r_7) = 1 →
        wp_Model_links cf tv 0 x1 (fun r_9 σ_10 => rI r_9 → RK σ_10 →
        Q r_9 σ_10) σ_8) ∧
      ((gA σ_8 715 0 r_7) = 1 →
        wp_Model_filled cf tv 0 x1 (fun r_11 σ_12 => rI r_11 → RK σ_12 →
        Q r_11 σ_12) σ_8)) ∧
    (r_7 = (-1) →
      Q (-4) σ_8)) σ) ∧
  ((gI σ 706 0) = 0 →
    Q (-2) σ)
/-! Model.size(I)I -/
abbrev rm_Model_size : Room := { frames := 1, cells := 0, slots := 0, locals := 24 }
def wp_Model_size (cf : Cf) (tv : Nat → Int) (x1 : Int) (Q : Int → St → Prop) (σ : St) : Prop :=
  (¬ (gI σ 706 0) = 0 →
    wp_Model_nodeOf cf tv 0 x1 (fun r_3 σ_4 => rI r_3 → RK σ_4 →
    (¬ r_3 = (-1) →
      ((0 : Int) ≤ r_3 ∧ r_3 < 1400) ∧
      (¬ (gA σ_4 715 0 r_3) = 1 →
        ((0 : Int) ≤ r_3 ∧ r_3 < 1400) ∧
        Q (gA σ_4 716 0 r_3) σ_4) ∧
      ((gA σ_4 715 0 r_3) = 1 →
        Q (-7) σ_4)) ∧
    (r_3 = (-1) →
      Q (-4) σ_4)) σ) ∧
  ((gI σ 706 0) = 0 →
    Q (-2) σ)
/-! Model.many(I)I -/
def wp_Model_many_L4 (cf : Cf) (tv : Nat → Int) (x1 : Int) (Q : Int → St → Prop) (K4 : Int → Int → St → Prop) (y2 : Int) (y3 : Int) (σ : St) : Prop :=
  ((0 : Int) ≤ (0 : Int) ∧ (0 : Int) < 2) ∧
  ((gA σ 721 0 0) ≤ y3 →
    Q y2 σ) ∧
  (¬ (gA σ 721 0 0) ≤ y3 →
    ((0 : Int) ≤ y3 ∧ y3 < 1400) ∧
    ∀ y2_5, y2_5 = w32 (y2 + (if (gA σ 722 0 y3) = x1 then (1 : Int) else (0 : Int))) →
    ∀ y3_6, y3_6 = w32 (y3 + 1) →
    K4 y2_5 y3_6 σ)
abbrev rm_Model_many : Room := { frames := 0, cells := 0, slots := 0, locals := 0 }
def wp_Model_many (cf : Cf) (tv : Nat → Int) (x1 : Int) (Q : Int → St → Prop) (σ : St) : Prop :=
  lQ2 (wp_Model_many_L4 cf tv x1 Q) 0 0 σ
/-! Model.set(IJJ)I -/
def wp_Model_set_b62 (cf : Cf) (tv : Nat → Int) (x1 : Int) (x2 : Int) (x4 : Int) (Q : Int → St → Prop) (σ : St) : Prop :=
  wp_Model_group cf tv 10 x1 0 (fun r_17 σ_18 => rI r_17 → RK σ_18 →
  ((0 : Int) ≤ r_17 ∧ r_17 < 8) ∧
  ∀ σ_19, σ_19 = sA σ_18 738 0 r_17 x2 →
  ((0 : Int) ≤ r_17 ∧ r_17 < 8) ∧
  ∀ σ_20, σ_20 = sA σ_19 739 0 r_17 x4 →
  wp_Model_hand cf tv 96 (fun σ_22 => RK σ_22 →
  wp_Model_many cf tv x1 (fun r_23 σ_24 => rI r_23 → RK σ_24 →
  Q r_23 σ_24) σ_22) σ_20) σ
abbrev rm_Model_set : Room := { frames := 6, cells := 0, slots := 0, locals := 147 }
def wp_Model_set (cf : Cf) (tv : Nat → Int) (x1 : Int) (x2 : Int) (x4 : Int) (Q : Int → St → Prop) (σ : St) : Prop :=
  (¬ (gI σ 706 0) = 0 →
    wp_Model_isName cf tv x2 (fun r_25 σ_26 => rZ r_25 → RK σ_26 →
    (¬ r_25 = 0 →
      wp_Model_nodeOf cf tv 0 x1 (fun r_27 σ_28 => rI r_27 → RK σ_28 →
      (¬ r_27 = (-1) →
        wp_Model_attributeOf cf tv 0 x1 x2 (fun r_29 σ_30 => rI r_29 → RK σ_30 →
        (¬ r_29 = (-1) →
          wp_Model_set_b62 cf tv x1 x2 x4 Q σ_30) ∧
        (r_29 = (-1) →
          wp_Model_live cf tv (fun r_31 σ_32 => rI r_31 → RK σ_32 →
          ((w32 (r_31 + 240)) ≤ (cap cf) →
            wp_Model_set_b62 cf tv x1 x2 x4 Q σ_32) ∧
          (¬ (w32 (r_31 + 240)) ≤ (cap cf) →
            Q (-10) σ_32)) σ_30)) σ_28) ∧
      (r_27 = (-1) →
        Q (-4) σ_28)) σ_26) ∧
    (r_25 = 0 →
      Q (-3) σ_26)) σ) ∧
  ((gI σ 706 0) = 0 →
    Q (-2) σ)
/-! Model.drop(IJ)I -/
abbrev rm_Model_drop : Room := { frames := 6, cells := 0, slots := 0, locals := 147 }
def wp_Model_drop (cf : Cf) (tv : Nat → Int) (x1 : Int) (x2 : Int) (Q : Int → St → Prop) (σ : St) : Prop :=
  (¬ (gI σ 706 0) = 0 →
    wp_Model_isName cf tv x2 (fun r_14 σ_15 => rZ r_14 → RK σ_15 →
    (¬ r_14 = 0 →
      wp_Model_nodeOf cf tv 0 x1 (fun r_16 σ_17 => rI r_16 → RK σ_17 →
      (r_16 = (-1) →
        Q (-4) σ_17) ∧
      (¬ r_16 = (-1) →
        wp_Model_attributeOf cf tv 0 x1 x2 (fun r_18 σ_19 => rI r_18 → RK σ_19 →
        (¬ r_18 = (-1) →
          wp_Model_group cf tv 11 x1 0 (fun r_20 σ_21 => rI r_20 → RK σ_21 →
          ((0 : Int) ≤ r_20 ∧ r_20 < 8) ∧
          ∀ σ_22, σ_22 = sA σ_21 738 0 r_20 x2 →
          wp_Model_hand cf tv 96 (fun σ_24 => RK σ_24 →
          wp_Model_many cf tv x1 (fun r_25 σ_26 => rI r_25 → RK σ_26 →
          Q r_25 σ_26) σ_24) σ_22) σ_19) ∧
        (r_18 = (-1) →
          Q (-4) σ_19)) σ_17)) σ_15) ∧
    (r_14 = 0 →
      Q (-3) σ_15)) σ) ∧
  ((gI σ 706 0) = 0 →
    Q (-2) σ)
/-! Model.attribute(IJ)J -/
def wp_Model_attribute_b18 (cf : Cf) (tv : Nat → Int) (x1 : Int) (x2 : Int) (Q : Int → St → Prop) (t0 : Int) (σ : St) : Prop :=
  (¬ t0 = (-1) →
    ((0 : Int) ≤ t0 ∧ t0 < 1400) ∧
    Q (gA σ 724 0 t0) σ) ∧
  (t0 = (-1) →
    Q 0 σ)
abbrev rm_Model_attribute : Room := { frames := 1, cells := 0, slots := 0, locals := 26 }
def wp_Model_attribute (cf : Cf) (tv : Nat → Int) (x1 : Int) (x2 : Int) (Q : Int → St → Prop) (σ : St) : Prop :=
  ((gI σ 706 0) = 0 →
    wp_Model_attribute_b18 cf tv x1 x2 Q (-1) σ) ∧
  (¬ (gI σ 706 0) = 0 →
    wp_Model_attributeOf cf tv 0 x1 x2 (fun r_5 σ_6 => rI r_5 → RK σ_6 →
    wp_Model_attribute_b18 cf tv x1 x2 Q r_5 σ_6) σ)
/-! Model.attributes(I)I -/
abbrev rm_Model_attributes : Room := { frames := 1, cells := 0, slots := 0, locals := 24 }
def wp_Model_attributes (cf : Cf) (tv : Nat → Int) (x1 : Int) (Q : Int → St → Prop) (σ : St) : Prop :=
  (¬ (gI σ 706 0) = 0 →
    wp_Model_nodeOf cf tv 0 x1 (fun r_5 σ_6 => rI r_5 → RK σ_6 →
    (¬ r_5 = (-1) →
      wp_Model_many cf tv x1 (fun r_7 σ_8 => rI r_7 → RK σ_8 →
      Q r_7 σ_8) σ_6) ∧
    (r_5 = (-1) →
      Q (-4) σ_6)) σ) ∧
  ((gI σ 706 0) = 0 →
    Q (-2) σ)
/-! Model.key(II)J -/
def wp_Model_key_b131 (cf : Cf) (tv : Nat → Int) (x1 : Int) (x2 : Int) (Q : Int → St → Prop) (K132 : Int → Int → St → Prop) (y3 : Int) (y5 : Int) (σ : St) : Prop :=
  K132 y5 y3 σ
def wp_Model_key_b132 (cf : Cf) (tv : Nat → Int) (x1 : Int) (x2 : Int) (Q : Int → St → Prop) (K18 : Int → Int → St → Prop) (y5 : Int) (t0 : Int) (σ : St) : Prop :=
  ∀ y5_16, y5_16 = w32 (y5 + 1) →
  K18 t0 y5_16 σ
def wp_Model_key_b104 (cf : Cf) (tv : Nat → Int) (x1 : Int) (x2 : Int) (Q : Int → St → Prop) (K18 : Int → Int → St → Prop) (y3 : Int) (y5 : Int) (y6 : Int) (σ : St) : Prop :=
  ((0 : Int) ≤ y5 ∧ y5 < 1400) ∧
  (¬ (gA σ 722 0 y5) = x1 →
    wp_Model_key_b131 cf tv x1 x2 Q (wp_Model_key_b132 cf tv x1 x2 Q K18) y3 y5 σ) ∧
  ((gA σ 722 0 y5) = x1 →
    (¬ y6 = x2 →
      wp_Model_key_b131 cf tv x1 x2 Q (wp_Model_key_b132 cf tv x1 x2 Q K18) y3 y5 σ) ∧
    (y6 = x2 →
      ((0 : Int) ≤ y5 ∧ y5 < 1400) ∧
      wp_Model_key_b132 cf tv x1 x2 Q K18 y5 (gA σ 723 0 y5) σ))
def wp_Model_key_b94 (cf : Cf) (tv : Nat → Int) (x1 : Int) (x2 : Int) (Q : Int → St → Prop) (K95 : Int → Int → Int → Int → Int → St → Prop) (y3 : Int) (y5 : Int) (y7 : Int) (t0 : Int) (σ : St) : Prop :=
  K95 y3 y5 y7 0 t0 σ
def wp_Model_key_b95 (cf : Cf) (tv : Nat → Int) (x1 : Int) (x2 : Int) (Q : Int → St → Prop) (K35 : Int → Int → Int → Int → St → Prop) (y3 : Int) (y5 : Int) (y7 : Int) (t0 : Int) (t1 : Int) (σ : St) : Prop :=
  ∀ y6_17, y6_17 = w32 (t1 + t0) →
  ∀ y7_18, y7_18 = w32 (y7 + 1) →
  K35 y3 y5 y6_17 y7_18 σ
def wp_Model_key_L35 (cf : Cf) (tv : Nat → Int) (x1 : Int) (x2 : Int) (Q : Int → St → Prop) (K18 : Int → Int → St → Prop) (K35 : Int → Int → Int → Int → St → Prop) (y3 : Int) (y5 : Int) (y6 : Int) (y7 : Int) (σ : St) : Prop :=
  ((0 : Int) ≤ (0 : Int) ∧ (0 : Int) < 2) ∧
  ((gA σ 721 0 0) ≤ y7 →
    wp_Model_key_b104 cf tv x1 x2 Q K18 y3 y5 y6 σ) ∧
  (¬ (gA σ 721 0 0) ≤ y7 →
    ((0 : Int) ≤ y5 ∧ y5 < 1400) ∧
    (¬ (gA σ 722 0 y5) = x1 →
      wp_Model_key_b104 cf tv x1 x2 Q K18 y3 y5 y6 σ) ∧
    ((gA σ 722 0 y5) = x1 →
      ((0 : Int) ≤ y7 ∧ y7 < 1400) ∧
      (¬ (gA σ 722 0 y7) = x1 →
        wp_Model_key_b94 cf tv x1 x2 Q (wp_Model_key_b95 cf tv x1 x2 Q K35) y3 y5 y7 y6 σ) ∧
      ((gA σ 722 0 y7) = x1 →
        ((0 : Int) ≤ y7 ∧ y7 < 1400) ∧
        ((0 : Int) ≤ y5 ∧ y5 < 1400) ∧
        wp_Model_isBefore cf tv (gA σ 723 0 y7) (gA σ 723 0 y5) (fun r_19 σ_20 => rZ r_19 → RK σ_20 →
        (r_19 = 0 →
          wp_Model_key_b94 cf tv x1 x2 Q (wp_Model_key_b95 cf tv x1 x2 Q K35) y3 y5 y7 y6 σ_20) ∧
        (¬ r_19 = 0 →
          wp_Model_key_b95 cf tv x1 x2 Q K35 y3 y5 y7 1 y6 σ_20)) σ)))
def wp_Model_key_L18 (cf : Cf) (tv : Nat → Int) (x1 : Int) (x2 : Int) (Q : Int → St → Prop) (K18 : Int → Int → St → Prop) (y3 : Int) (y5 : Int) (σ : St) : Prop :=
  ((0 : Int) ≤ (0 : Int) ∧ (0 : Int) < 2) ∧
  ((gA σ 721 0 0) ≤ y5 →
    Q y3 σ) ∧
  (¬ (gA σ 721 0 0) ≤ y5 →
    lQ4 (wp_Model_key_L35 cf tv x1 x2 Q K18) y3 y5 0 0 σ)
abbrev rm_Model_key : Room := { frames := 2, cells := 0, slots := 0, locals := 47 }
def wp_Model_key (cf : Cf) (tv : Nat → Int) (x1 : Int) (x2 : Int) (Q : Int → St → Prop) (σ : St) : Prop :=
  ((gI σ 706 0) = 0 →
    Q 0 σ) ∧
  (¬ (gI σ 706 0) = 0 →
    (0 ≤ x2 →
      lQ2 (wp_Model_key_L18 cf tv x1 x2 Q) 0 0 σ) ∧
    (¬ 0 ≤ x2 →
      Q 0 σ))
/-! Model.open(I)I -/
def wp_Model_open_b99 (cf : Cf) (tv : Nat → Int) (x1 : Int) (Q : Int → St → Prop) (K78 : Int → Int → St → Prop) (y4 : Int) (t0 : Int) (σ : St) : Prop :=
  ∀ y4_19, y4_19 = w32 (y4 + (-1)) →
  K78 t0 y4_19 σ
def wp_Model_open_L78 (cf : Cf) (tv : Nat → Int) (x1 : Int) (Q : Int → St → Prop) (K78 : Int → Int → St → Prop) (y3 : Int) (y4 : Int) (σ : St) : Prop :=
  (y4 < 0 →
    (¬ y3 = (-1) →
      ((0 : Int) ≤ y3 ∧ y3 < 8) ∧
      ∀ σ_20, σ_20 = sA σ 711 0 y3 x1 →
      Q y3 σ_20) ∧
    (y3 = (-1) →
      Q (-10) σ)) ∧
  (¬ y4 < 0 →
    ((0 : Int) ≤ y4 ∧ y4 < 8) ∧
    (¬ (gA σ 711 0 y4) = 0 →
      wp_Model_open_b99 cf tv x1 Q K78 y4 y3 σ) ∧
    ((gA σ 711 0 y4) = 0 →
      wp_Model_open_b99 cf tv x1 Q K78 y4 y4 σ))
def wp_Model_open_b44 (cf : Cf) (tv : Nat → Int) (x1 : Int) (Q : Int → St → Prop) (y2 : Int) (σ : St) : Prop :=
  ((0 : Int) ≤ y2 ∧ y2 < 1400) ∧
  ((gA σ 715 0 y2) = 2 →
    lQ2 (wp_Model_open_L78 cf tv x1 Q) (-1) 7 σ) ∧
  (¬ (gA σ 715 0 y2) = 2 →
    ((0 : Int) ≤ y2 ∧ y2 < 1400) ∧
    Q (if (gA σ 715 0 y2) = 1 then (-7 : Int) else (-11 : Int)) σ)
abbrev rm_Model_open : Room := { frames := 1, cells := 0, slots := 0, locals := 24 }
def wp_Model_open (cf : Cf) (tv : Nat → Int) (x1 : Int) (Q : Int → St → Prop) (σ : St) : Prop :=
  (¬ (gI σ 706 0) = 0 →
    wp_Model_nodeOf cf tv 0 x1 (fun r_21 σ_22 => rI r_21 → RK σ_22 →
    (r_21 = (-1) →
      Q (-4) σ_22) ∧
    (¬ r_21 = (-1) →
      ((0 : Int) ≤ r_21 ∧ r_21 < 1400) ∧
      ((gA σ_22 715 0 r_21) = 1 →
        wp_Model_open_b44 cf tv x1 Q r_21 σ_22) ∧
      (¬ (gA σ_22 715 0 r_21) = 1 →
        wp_Model_links cf tv 0 x1 (fun r_23 σ_24 => rI r_23 → RK σ_24 →
        (¬ r_23 = 0 →
          wp_Model_open_b44 cf tv x1 Q r_21 σ_24) ∧
        (r_23 = 0 →
          Q (-4) σ_24)) σ_22))) σ) ∧
  ((gI σ 706 0) = 0 →
    Q (-2) σ)
/-! Model.isHandle(I)Z -/
abbrev rm_Model_isHandle : Room := { frames := 0, cells := 0, slots := 0, locals := 0 }
def wp_Model_isHandle (cf : Cf) (tv : Nat → Int) (x1 : Int) (Q : Int → St → Prop) (σ : St) : Prop :=
  (x1 < 0 →
    Q 0 σ) ∧
  (¬ x1 < 0 →
    (8 ≤ x1 →
      Q 0 σ) ∧
    (¬ 8 ≤ x1 →
      ((0 : Int) ≤ x1 ∧ x1 < 8) ∧
      ((gA σ 711 0 x1) = 0 →
        Q 0 σ) ∧
      (¬ (gA σ 711 0 x1) = 0 →
        Q 1 σ)))
/-! Model.close(I)I -/
abbrev rm_Model_close : Room := { frames := 6, cells := 0, slots := 0, locals := 147 }
def wp_Model_close (cf : Cf) (tv : Nat → Int) (x1 : Int) (Q : Int → St → Prop) (σ : St) : Prop :=
  (¬ (gI σ 706 0) = 0 →
    wp_Model_isHandle cf tv x1 (fun r_13 σ_14 => rZ r_13 → RK σ_14 →
    (¬ r_13 = 0 →
      ((0 : Int) ≤ x1 ∧ x1 < 8) ∧
      ∀ y2_15, y2_15 = gA σ_14 711 0 x1 →
      ((0 : Int) ≤ x1 ∧ x1 < 8) ∧
      ∀ σ_16, σ_16 = sA σ_14 711 0 x1 0 →
      wp_Model_links cf tv 0 y2_15 (fun r_17 σ_18 => rI r_17 → RK σ_18 →
      (0 < r_17 →
        Q 0 σ_18) ∧
      (¬ 0 < r_17 →
        wp_Model_isOpen cf tv y2_15 (fun r_19 σ_20 => rZ r_19 → RK σ_20 →
        (r_19 = 0 →
          wp_Model_group cf tv 8 y2_15 0 (fun r_21 σ_22 => rI r_21 → RK σ_22 →
          wp_Model_hand cf tv 48 (fun σ_24 => RK σ_24 →
          Q 1 σ_24) σ_22) σ_20) ∧
        (¬ r_19 = 0 →
          Q 0 σ_20)) σ_18)) σ_16) ∧
    (r_13 = 0 →
      Q (-3) σ_14)) σ) ∧
  ((gI σ 706 0) = 0 →
    Q (-2) σ)
/-! Model.opened(I)I -/
abbrev rm_Model_opened : Room := { frames := 1, cells := 0, slots := 0, locals := 21 }
def wp_Model_opened (cf : Cf) (tv : Nat → Int) (x1 : Int) (Q : Int → St → Prop) (σ : St) : Prop :=
  (¬ (gI σ 706 0) = 0 →
    wp_Model_isHandle cf tv x1 (fun r_3 σ_4 => rZ r_3 → RK σ_4 →
    (r_3 = 0 →
      Q (-1) σ_4) ∧
    (¬ r_3 = 0 →
      ((0 : Int) ≤ x1 ∧ x1 < 8) ∧
      Q (gA σ_4 711 0 x1) σ_4)) σ) ∧
  ((gI σ 706 0) = 0 →
    Q (-2) σ)
/-! Model.writePart(IIIIJI)Z -/
def wp_Model_writePart_L291 (cf : Cf) (tv : Nat → Int) (x1 : Int) (x2 : Int) (x3 : Int) (x4 : Int) (x5 : Int) (x7 : Int) (Q : Int → St → Prop) (K291 : Int → Int → Int → St → Prop) (y12 : Int) (y15 : Int) (y16 : Int) (σ : St) : Prop :=
  (64 ≤ y16 →
    wp_Model_eights cf tv y12 (fun r_85 σ_86 => rI r_85 → RK σ_86 →
    wp_Model_hand cf tv (w32 (80 + r_85)) (fun σ_88 => RK σ_88 →
    Q 1 σ_88) σ_86) σ) ∧
  (¬ 64 ≤ y16 →
    ((0 : Int) ≤ y16 ∧ y16 < 64) ∧
    ((0 : Int) ≤ w32 ((w32 (64 * y15)) + y16) ∧ w32 ((w32 (64 * y15)) + y16) < 512) ∧
    ∀ σ_89, σ_89 = sA σ 740 0 (w32 ((w32 (64 * y15)) + y16)) (gA σ 741 0 y16) →
    ∀ y16_90, y16_90 = w32 (y16 + 1) →
    K291 y12 y15 y16_90 σ_89)
def wp_Model_writePart_b225 (cf : Cf) (tv : Nat → Int) (x1 : Int) (x2 : Int) (x3 : Int) (x4 : Int) (x5 : Int) (x7 : Int) (Q : Int → St → Prop) (K158 : Int → Int → Int → Int → St → Prop) (y8 : Int) (y9 : Int) (y12 : Int) (y14 : Int) (t0 : Int) (t1 : Int) (σ : St) : Prop :=
  ((0 : Int) ≤ t1 ∧ t1 < 64) ∧
  ∀ σ_91, σ_91 = sA σ 741 0 t1 t0 →
  ∀ y14_92, y14_92 = w32 (y14 + 1) →
  K158 y8 y9 y12 y14_92 σ_91
def wp_Model_writePart_b287 (cf : Cf) (tv : Nat → Int) (x1 : Int) (x2 : Int) (x3 : Int) (x4 : Int) (x5 : Int) (x7 : Int) (Q : Int → St → Prop) (y12 : Int) (y15 : Int) (t0 : Int) (t1 : Int) (σ : St) : Prop :=
  ((0 : Int) ≤ t1 ∧ t1 < 8) ∧
  ∀ σ_93, σ_93 = sA σ 736 0 t1 t0 →
  lQ3 (wp_Model_writePart_L291 cf tv x1 x2 x3 x4 x5 x7 Q) y12 y15 0 σ_93
def wp_Model_writePart_b223 (cf : Cf) (tv : Nat → Int) (x1 : Int) (x2 : Int) (x3 : Int) (x4 : Int) (x5 : Int) (x7 : Int) (Q : Int → St → Prop) (K225 : Int → Int → Int → Int → Int → Int → St → Prop) (y8 : Int) (y9 : Int) (y12 : Int) (y14 : Int) (t0 : Int) (t1 : Int) (σ : St) : Prop :=
  K225 y8 y9 y12 y14 (b8 (w32 t0)) t1 σ
def wp_Model_writePart_b148 (cf : Cf) (tv : Nat → Int) (x1 : Int) (x2 : Int) (x3 : Int) (x4 : Int) (x5 : Int) (x7 : Int) (Q : Int → St → Prop) (K111 : Int → Int → Int → Int → Int → Int → St → Prop) (y8 : Int) (y9 : Int) (y10 : Int) (y11 : Int) (y12 : Int) (y14 : Int) (t0 : Int) (t1 : Int) (σ : St) : Prop :=
  ((0 : Int) ≤ t1 ∧ t1 < 64) ∧
  ∀ σ_94, σ_94 = sA σ 741 0 t1 t0 →
  ∀ y14_95, y14_95 = w32 (y14 + 1) →
  K111 y8 y9 y10 y11 y12 y14_95 σ_94
def wp_Model_writePart_L158 (cf : Cf) (tv : Nat → Int) (x1 : Int) (x2 : Int) (x3 : Int) (x4 : Int) (x5 : Int) (x7 : Int) (Q : Int → St → Prop) (K158 : Int → Int → Int → Int → St → Prop) (y8 : Int) (y9 : Int) (y12 : Int) (y14 : Int) (σ : St) : Prop :=
  (x3 ≤ y14 →
    wp_Model_nodeOf cf tv 0 x1 (fun r_96 σ_97 => rI r_96 → RK σ_97 →
    ((0 : Int) ≤ r_96 ∧ r_96 < 1400) ∧
    ∀ y14_98, y14_98 = gA σ_97 716 0 r_96 →
    wp_Model_group cf tv 6 x1 y8 (fun r_99 σ_100 => rI r_99 → RK σ_100 →
    ((0 : Int) ≤ r_99 ∧ r_99 < 8) ∧
    ∀ σ_101, σ_101 = sA σ_100 735 0 r_99 y12 →
    ((w32 (x2 + x3)) ≤ y14_98 →
      wp_Model_writePart_b287 cf tv x1 x2 x3 x4 x5 x7 Q y12 r_99 y14_98 r_99 σ_101) ∧
    (¬ (w32 (x2 + x3)) ≤ y14_98 →
      wp_Model_writePart_b287 cf tv x1 x2 x3 x4 x5 x7 Q y12 r_99 (w32 (x2 + x3)) r_99 σ_101)) σ_97) σ) ∧
  (¬ x3 ≤ y14 →
    ∀ y15_102, y15_102 = w32 (x4 + y14) →
    (¬ x7 = 2 →
      (¬ x7 = 1 →
        wp_Model_writePart_b223 cf tv x1 x2 x3 x4 x5 x7 Q (wp_Model_writePart_b225 cf tv x1 x2 x3 x4 x5 x7 Q K158) y8 y9 y12 y14 (lshr x5 (w32 (8 * y15_102))) (w32 (y9 + y14)) σ) ∧
      (x7 = 1 →
        wp_Model_writePart_b223 cf tv x1 x2 x3 x4 x5 x7 Q (wp_Model_writePart_b225 cf tv x1 x2 x3 x4 x5 x7 Q K158) y8 y9 y12 y14 (w64 (x5 + (w64 (7 * y15_102)))) (w32 (y9 + y14)) σ)) ∧
    (x7 = 2 →
      ((0 : Int) ≤ y15_102 ∧ y15_102 < 2048) ∧
      wp_Model_writePart_b225 cf tv x1 x2 x3 x4 x5 x7 Q K158 y8 y9 y12 y14 (gA σ 742 0 y15_102) (w32 (y9 + y14)) σ))
def wp_Model_writePart_L111 (cf : Cf) (tv : Nat → Int) (x1 : Int) (x2 : Int) (x3 : Int) (x4 : Int) (x5 : Int) (x7 : Int) (Q : Int → St → Prop) (K111 : Int → Int → Int → Int → Int → Int → St → Prop) (y8 : Int) (y9 : Int) (y10 : Int) (y11 : Int) (y12 : Int) (y14 : Int) (σ : St) : Prop :=
  (64 ≤ y14 →
    lQ4 (wp_Model_writePart_L158 cf tv x1 x2 x3 x4 x5 x7 Q) y8 y9 y12 0 σ) ∧
  (¬ 64 ≤ y14 →
    (y11 ≤ y14 →
      wp_Model_writePart_b148 cf tv x1 x2 x3 x4 x5 x7 Q K111 y8 y9 y10 y11 y12 y14 0 y14 σ) ∧
    (¬ y11 ≤ y14 →
      ((0 : Int) ≤ w32 ((w32 (64 * y10)) + y14) ∧ w32 ((w32 (64 * y10)) + y14) < 92160) ∧
      wp_Model_writePart_b148 cf tv x1 x2 x3 x4 x5 x7 Q K111 y8 y9 y10 y11 y12 y14 (gA σ 729 0 (w32 ((w32 (64 * y10)) + y14))) y14 σ))
def wp_Model_writePart_b80 (cf : Cf) (tv : Nat → Int) (x1 : Int) (x2 : Int) (x3 : Int) (x4 : Int) (x5 : Int) (x7 : Int) (Q : Int → St → Prop) (y8 : Int) (y9 : Int) (y10 : Int) (y11 : Int) (y12 : Int) (t0 : Int) (σ : St) : Prop :=
  wp_Model_live cf tv (fun r_103 σ_104 => rI r_103 → RK σ_104 →
  wp_Model_eights cf tv y12 (fun r_105 σ_106 => rI r_105 → RK σ_106 →
  ((w32 ((w32 ((w32 (r_103 - t0)) + 224)) + r_105)) ≤ (cap cf) →
    lQ6 (wp_Model_writePart_L111 cf tv x1 x2 x3 x4 x5 x7 Q) y8 y9 y10 y11 y12 0 σ_106) ∧
  (¬ (w32 ((w32 ((w32 (r_103 - t0)) + 224)) + r_105)) ≤ (cap cf) →
    Q 0 σ_106)) σ_104) σ
def wp_Model_writePart_b59 (cf : Cf) (tv : Nat → Int) (x1 : Int) (x2 : Int) (x3 : Int) (x4 : Int) (x5 : Int) (x7 : Int) (Q : Int → St → Prop) (y8 : Int) (y9 : Int) (y10 : Int) (y11 : Int) (t0 : Int) (σ : St) : Prop :=
  (¬ y10 = (-1) →
    wp_Model_eights cf tv y11 (fun r_107 σ_108 => rI r_107 → RK σ_108 →
    wp_Model_writePart_b80 cf tv x1 x2 x3 x4 x5 x7 Q y8 y9 y10 y11 t0 (w32 (224 + r_107)) σ_108) σ) ∧
  (y10 = (-1) →
    wp_Model_writePart_b80 cf tv x1 x2 x3 x4 x5 x7 Q y8 y9 y10 y11 t0 0 σ)
def wp_Model_writePart_b39 (cf : Cf) (tv : Nat → Int) (x1 : Int) (x2 : Int) (x3 : Int) (x4 : Int) (x5 : Int) (x7 : Int) (Q : Int → St → Prop) (y8 : Int) (y9 : Int) (y10 : Int) (t0 : Int) (σ : St) : Prop :=
  ((w32 (y9 + x3)) ≤ t0 →
    wp_Model_writePart_b59 cf tv x1 x2 x3 x4 x5 x7 Q y8 y9 y10 t0 t0 σ) ∧
  (¬ (w32 (y9 + x3)) ≤ t0 →
    wp_Model_writePart_b59 cf tv x1 x2 x3 x4 x5 x7 Q y8 y9 y10 t0 (w32 (y9 + x3)) σ)
abbrev rm_Model_writePart : Room := { frames := 6, cells := 0, slots := 0, locals := 147 }
def wp_Model_writePart (cf : Cf) (tv : Nat → Int) (x1 : Int) (x2 : Int) (x3 : Int) (x4 : Int) (x5 : Int) (x7 : Int) (Q : Int → St → Prop) (σ : St) : Prop :=
  ∀ y8_109, y8_109 = jdv x2 64 →
  ∀ y9_110, y9_110 = jrm x2 64 →
  wp_Model_pieceOf cf tv 0 x1 y8_109 (fun r_111 σ_112 => rI r_111 → RK σ_112 →
  (¬ r_111 = (-1) →
    ((0 : Int) ≤ r_111 ∧ r_111 < 1440) ∧
    wp_Model_writePart_b39 cf tv x1 x2 x3 x4 x5 x7 Q y8_109 y9_110 r_111 (gA σ_112 728 0 r_111) σ_112) ∧
  (r_111 = (-1) →
    wp_Model_writePart_b39 cf tv x1 x2 x3 x4 x5 x7 Q y8_109 y9_110 r_111 0 σ_112)) σ
/-! Model.writeAll(IIIJI)I -/
def wp_Model_writeAll_b88 (cf : Cf) (tv : Nat → Int) (x1 : Int) (x2 : Int) (x3 : Int) (x4 : Int) (x6 : Int) (Q : Int → St → Prop) (K6 : Int → Int → St → Prop) (y8 : Int) (t0 : Int) (t1 : Int) (σ : St) : Prop :=
  ∀ y7_16, y7_16 = w32 (t1 + t0) →
  K6 y7_16 y8 σ
def wp_Model_writeAll_b94 (cf : Cf) (tv : Nat → Int) (x1 : Int) (x2 : Int) (x3 : Int) (x4 : Int) (x6 : Int) (Q : Int → St → Prop) (y7 : Int) (σ : St) : Prop :=
  (¬ y7 = 0 →
    Q y7 σ) ∧
  (y7 = 0 →
    Q (-10) σ)
def wp_Model_writeAll_b51 (cf : Cf) (tv : Nat → Int) (x1 : Int) (x2 : Int) (x3 : Int) (x4 : Int) (x6 : Int) (Q : Int → St → Prop) (K6 : Int → Int → St → Prop) (y7 : Int) (y9 : Int) (t0 : Int) (σ : St) : Prop :=
  ((0 : Int) ≤ x1 ∧ x1 < 8) ∧
  wp_Model_writePart cf tv (gA σ 711 0 x1) y9 t0 y7 x4 x6 (fun r_17 σ_18 => rZ r_17 → RK σ_18 →
  (r_17 = 0 →
    wp_Model_writeAll_b88 cf tv x1 x2 x3 x4 x6 Q K6 r_17 0 y7 σ_18) ∧
  (¬ r_17 = 0 →
    wp_Model_writeAll_b88 cf tv x1 x2 x3 x4 x6 Q K6 r_17 t0 y7 σ_18)) σ
def wp_Model_writeAll_L6 (cf : Cf) (tv : Nat → Int) (x1 : Int) (x2 : Int) (x3 : Int) (x4 : Int) (x6 : Int) (Q : Int → St → Prop) (K6 : Int → Int → St → Prop) (y7 : Int) (y8 : Int) (σ : St) : Prop :=
  (x3 ≤ y7 →
    wp_Model_writeAll_b94 cf tv x1 x2 x3 x4 x6 Q y7 σ) ∧
  (¬ x3 ≤ y7 →
    (y8 = 0 →
      wp_Model_writeAll_b94 cf tv x1 x2 x3 x4 x6 Q y7 σ) ∧
    (¬ y8 = 0 →
      ∀ y9_19, y9_19 = w32 (x2 + y7) →
      ∀ y10_20, y10_20 = w32 (64 - (jrm y9_19 64)) →
      (y10_20 ≤ (w32 (x3 - y7)) →
        wp_Model_writeAll_b51 cf tv x1 x2 x3 x4 x6 Q K6 y7 y9_19 y10_20 σ) ∧
      (¬ y10_20 ≤ (w32 (x3 - y7)) →
        wp_Model_writeAll_b51 cf tv x1 x2 x3 x4 x6 Q K6 y7 y9_19 (w32 (x3 - y7)) σ)))
abbrev rm_Model_writeAll : Room := { frames := 7, cells := 0, slots := 0, locals := 183 }
def wp_Model_writeAll (cf : Cf) (tv : Nat → Int) (x1 : Int) (x2 : Int) (x3 : Int) (x4 : Int) (x6 : Int) (Q : Int → St → Prop) (σ : St) : Prop :=
  lQ2 (wp_Model_writeAll_L6 cf tv x1 x2 x3 x4 x6 Q) 0 1 σ
/-! Model.write(IIJI)I -/
abbrev rm_Model_write : Room := { frames := 8, cells := 0, slots := 0, locals := 214 }
def wp_Model_write (cf : Cf) (tv : Nat → Int) (x1 : Int) (x2 : Int) (x3 : Int) (x5 : Int) (Q : Int → St → Prop) (σ : St) : Prop :=
  (¬ (gI σ 706 0) = 0 →
    wp_Model_isHandle cf tv x1 (fun r_5 σ_6 => rZ r_5 → RK σ_6 →
    (r_5 = 0 →
      Q (-3) σ_6) ∧
    (¬ r_5 = 0 →
      (x5 < 1 →
        Q (-3) σ_6) ∧
      (¬ x5 < 1 →
        (8 < x5 →
          Q (-3) σ_6) ∧
        (¬ 8 < x5 →
          (x2 < 0 →
            Q (-3) σ_6) ∧
          (¬ x2 < 0 →
            (x2 ≤ (w32 (16384 - x5)) →
              wp_Model_writeAll cf tv x1 x2 x5 x3 0 (fun r_7 σ_8 => rI r_7 → RK σ_8 →
              Q r_7 σ_8) σ_6) ∧
            (¬ x2 ≤ (w32 (16384 - x5)) →
              Q (-3) σ_6)))))) σ) ∧
  ((gI σ 706 0) = 0 →
    Q (-2) σ)
/-! Model.fill(IIII)I -/
abbrev rm_Model_fill : Room := { frames := 8, cells := 0, slots := 0, locals := 214 }
def wp_Model_fill (cf : Cf) (tv : Nat → Int) (x1 : Int) (x2 : Int) (x3 : Int) (x4 : Int) (Q : Int → St → Prop) (σ : St) : Prop :=
  (¬ (gI σ 706 0) = 0 →
    wp_Model_isHandle cf tv x1 (fun r_5 σ_6 => rZ r_5 → RK σ_6 →
    (r_5 = 0 →
      Q (-3) σ_6) ∧
    (¬ r_5 = 0 →
      (x3 < 1 →
        Q (-3) σ_6) ∧
      (¬ x3 < 1 →
        (2048 < x3 →
          Q (-3) σ_6) ∧
        (¬ 2048 < x3 →
          (x2 < 0 →
            Q (-3) σ_6) ∧
          (¬ x2 < 0 →
            (x2 ≤ (w32 (16384 - x3)) →
              wp_Model_writeAll cf tv x1 x2 x3 x4 1 (fun r_7 σ_8 => rI r_7 → RK σ_8 →
              Q r_7 σ_8) σ_6) ∧
            (¬ x2 ≤ (w32 (16384 - x3)) →
              Q (-3) σ_6)))))) σ) ∧
  ((gI σ 706 0) = 0 →
    Q (-2) σ)
/-! Model.copy(IIIII)I -/
def wp_Model_copy_L102 (cf : Cf) (tv : Nat → Int) (x1 : Int) (x2 : Int) (x3 : Int) (x4 : Int) (x5 : Int) (Q : Int → St → Prop) (K102 : Int → Int → St → Prop) (y7 : Int) (y8 : Int) (σ : St) : Prop :=
  (y7 ≤ y8 →
    (1 ≤ y7 →
      wp_Model_writeAll cf tv x3 x4 y7 0 2 (fun r_27 σ_28 => rI r_27 → RK σ_28 →
      Q r_27 σ_28) σ) ∧
    (¬ 1 ≤ y7 →
      Q 0 σ)) ∧
  (¬ y7 ≤ y8 →
    ((0 : Int) ≤ x1 ∧ x1 < 8) ∧
    wp_Model_byteOf cf tv (gA σ 711 0 x1) (w32 (x2 + y8)) (fun r_29 σ_30 => rI r_29 → RK σ_30 →
    ((0 : Int) ≤ y8 ∧ y8 < 2048) ∧
    ∀ σ_31, σ_31 = sA σ_30 742 0 y8 (b8 r_29) →
    ∀ y8_32, y8_32 = w32 (y8 + 1) →
    K102 y7 y8_32 σ_31) σ)
def wp_Model_copy_b97 (cf : Cf) (tv : Nat → Int) (x1 : Int) (x2 : Int) (x3 : Int) (x4 : Int) (x5 : Int) (Q : Int → St → Prop) (t0 : Int) (σ : St) : Prop :=
  lQ2 (wp_Model_copy_L102 cf tv x1 x2 x3 x4 x5 Q) t0 0 σ
abbrev rm_Model_copy : Room := { frames := 8, cells := 0, slots := 0, locals := 214 }
def wp_Model_copy (cf : Cf) (tv : Nat → Int) (x1 : Int) (x2 : Int) (x3 : Int) (x4 : Int) (x5 : Int) (Q : Int → St → Prop) (σ : St) : Prop :=
  (¬ (gI σ 706 0) = 0 →
    wp_Model_isHandle cf tv x1 (fun r_33 σ_34 => rZ r_33 → RK σ_34 →
    (r_33 = 0 →
      Q (-3) σ_34) ∧
    (¬ r_33 = 0 →
      wp_Model_isHandle cf tv x3 (fun r_35 σ_36 => rZ r_35 → RK σ_36 →
      (r_35 = 0 →
        Q (-3) σ_36) ∧
      (¬ r_35 = 0 →
        (x5 < 1 →
          Q (-3) σ_36) ∧
        (¬ x5 < 1 →
          (2048 < x5 →
            Q (-3) σ_36) ∧
          (¬ 2048 < x5 →
            (x2 < 0 →
              Q (-3) σ_36) ∧
            (¬ x2 < 0 →
              (x4 < 0 →
                Q (-3) σ_36) ∧
              (¬ x4 < 0 →
                (x4 ≤ (w32 (16384 - x5)) →
                  ((0 : Int) ≤ x1 ∧ x1 < 8) ∧
                  wp_Model_nodeOf cf tv 0 (gA σ_36 711 0 x1) (fun r_37 σ_38 => rI r_37 → RK σ_38 →
                  ((0 : Int) ≤ r_37 ∧ r_37 < 1400) ∧
                  ∀ y6_39, y6_39 = w32 ((gA σ_38 716 0 r_37) - x2) →
                  (x5 ≤ y6_39 →
                    wp_Model_copy_b97 cf tv x1 x2 x3 x4 x5 Q x5 σ_38) ∧
                  (¬ x5 ≤ y6_39 →
                    wp_Model_copy_b97 cf tv x1 x2 x3 x4 x5 Q y6_39 σ_38)) σ_36) ∧
                (¬ x4 ≤ (w32 (16384 - x5)) →
                  Q (-3) σ_36))))))) σ_34)) σ) ∧
  ((gI σ 706 0) = 0 →
    Q (-2) σ)
/-! Model.resize(II)I -/
def wp_Model_resize_b140 (cf : Cf) (tv : Nat → Int) (x1 : Int) (x2 : Int) (Q : Int → St → Prop) (K144 : Int → Int → Int → St → Prop) (y3 : Int) (y4 : Int) (t0 : Int) (t1 : Int) (t2 : Int) (σ : St) : Prop :=
  ∀ y5_31, y5_31 = w32 (t2 + (w32 (t1 + t0))) →
  K144 y3 y4 y5_31 σ
def wp_Model_resize_b144 (cf : Cf) (tv : Nat → Int) (x1 : Int) (x2 : Int) (Q : Int → St → Prop) (y3 : Int) (y4 : Int) (y5 : Int) (σ : St) : Prop :=
  wp_Model_group cf tv 7 y3 x2 (fun r_32 σ_33 => rI r_32 → RK σ_33 →
  wp_Model_hand cf tv y5 (fun σ_35 => RK σ_35 →
  Q y4 σ_35) σ_33) σ
def wp_Model_resize_b114 (cf : Cf) (tv : Nat → Int) (x1 : Int) (x2 : Int) (Q : Int → St → Prop) (K115 : Int → Int → Int → Int → St → Prop) (y3 : Int) (y4 : Int) (y5 : Int) (σ : St) : Prop :=
  K115 y3 y4 y5 0 σ
def wp_Model_resize_b115 (cf : Cf) (tv : Nat → Int) (x1 : Int) (x2 : Int) (Q : Int → St → Prop) (K144 : Int → Int → Int → St → Prop) (y3 : Int) (y4 : Int) (y5 : Int) (t0 : Int) (σ : St) : Prop :=
  (t0 = 0 →
    wp_Model_resize_b140 cf tv x1 x2 Q K144 y3 y4 0 40 y5 σ) ∧
  (¬ t0 = 0 →
    wp_Model_eights cf tv (jrm x2 64) (fun r_36 σ_37 => rI r_36 → RK σ_37 →
    wp_Model_resize_b140 cf tv x1 x2 Q K144 y3 y4 (w32 (32 + r_36)) 40 y5 σ_37) σ)
abbrev rm_Model_resize : Room := { frames := 6, cells := 0, slots := 0, locals := 147 }
def wp_Model_resize (cf : Cf) (tv : Nat → Int) (x1 : Int) (x2 : Int) (Q : Int → St → Prop) (σ : St) : Prop :=
  (¬ (gI σ 706 0) = 0 →
    wp_Model_isHandle cf tv x1 (fun r_38 σ_39 => rZ r_38 → RK σ_39 →
    (r_38 = 0 →
      Q (-3) σ_39) ∧
    (¬ r_38 = 0 →
      (x2 < 0 →
        Q (-3) σ_39) ∧
      (¬ x2 < 0 →
        (x2 ≤ 16384 →
          ((0 : Int) ≤ x1 ∧ x1 < 8) ∧
          ∀ y3_40, y3_40 = gA σ_39 711 0 x1 →
          wp_Model_nodeOf cf tv 0 y3_40 (fun r_41 σ_42 => rI r_41 → RK σ_42 →
          ((0 : Int) ≤ r_41 ∧ r_41 < 1400) ∧
          ∀ y4_43, y4_43 = gA σ_42 716 0 r_41 →
          (¬ x2 = y4_43 →
            (y4_43 ≤ x2 →
              wp_Model_resize_b144 cf tv x1 x2 Q y3_40 y4_43 48 σ_42) ∧
            (¬ y4_43 ≤ x2 →
              wp_Model_pieceOf cf tv 0 y3_40 (jdv x2 64) (fun r_44 σ_45 => rI r_44 → RK σ_45 →
              (r_44 = (-1) →
                wp_Model_resize_b114 cf tv x1 x2 Q (wp_Model_resize_b115 cf tv x1 x2 Q (wp_Model_resize_b144 cf tv x1 x2 Q)) y3_40 y4_43 48 σ_45) ∧
              (¬ r_44 = (-1) →
                ((jrm x2 64) ≤ 0 →
                  wp_Model_resize_b114 cf tv x1 x2 Q (wp_Model_resize_b115 cf tv x1 x2 Q (wp_Model_resize_b144 cf tv x1 x2 Q)) y3_40 y4_43 48 σ_45) ∧
                (¬ (jrm x2 64) ≤ 0 →
                  ((0 : Int) ≤ r_44 ∧ r_44 < 1440) ∧
                  ((gA σ_45 728 0 r_44) ≤ (jrm x2 64) →
                    wp_Model_resize_b114 cf tv x1 x2 Q (wp_Model_resize_b115 cf tv x1 x2 Q (wp_Model_resize_b144 cf tv x1 x2 Q)) y3_40 y4_43 48 σ_45) ∧
                  (¬ (gA σ_45 728 0 r_44) ≤ (jrm x2 64) →
                    wp_Model_resize_b115 cf tv x1 x2 Q (wp_Model_resize_b144 cf tv x1 x2 Q) y3_40 y4_43 48 1 σ_45)))) σ_42)) ∧
          (x2 = y4_43 →
            Q y4_43 σ_42)) σ_39) ∧
        (¬ x2 ≤ 16384 →
          Q (-3) σ_39)))) σ) ∧
  ((gI σ 706 0) = 0 →
    Q (-2) σ)
/-! Model.byteAt(II)I -/
def wp_Model_byteAt_b45 (cf : Cf) (tv : Nat → Int) (x1 : Int) (x2 : Int) (Q : Int → St → Prop) (σ : St) : Prop :=
  Q (-1) σ
abbrev rm_Model_byteAt : Room := { frames := 2, cells := 0, slots := 0, locals := 48 }
def wp_Model_byteAt (cf : Cf) (tv : Nat → Int) (x1 : Int) (x2 : Int) (Q : Int → St → Prop) (σ : St) : Prop :=
  (¬ (gI σ 706 0) = 0 →
    wp_Model_isHandle cf tv x1 (fun r_7 σ_8 => rZ r_7 → RK σ_8 →
    (¬ r_7 = 0 →
      (x2 < 0 →
        wp_Model_byteAt_b45 cf tv x1 x2 Q σ_8) ∧
      (¬ x2 < 0 →
        ((0 : Int) ≤ x1 ∧ x1 < 8) ∧
        wp_Model_nodeOf cf tv 0 (gA σ_8 711 0 x1) (fun r_9 σ_10 => rI r_9 → RK σ_10 →
        ((0 : Int) ≤ r_9 ∧ r_9 < 1400) ∧
        (x2 < (gA σ_10 716 0 r_9) →
          ((0 : Int) ≤ x1 ∧ x1 < 8) ∧
          wp_Model_byteOf cf tv (gA σ_10 711 0 x1) x2 (fun r_11 σ_12 => rI r_11 → RK σ_12 →
          Q r_11 σ_12) σ_10) ∧
        (¬ x2 < (gA σ_10 716 0 r_9) →
          wp_Model_byteAt_b45 cf tv x1 x2 Q σ_10)) σ_8)) ∧
    (r_7 = 0 →
      Q (-3) σ_8)) σ) ∧
  ((gI σ 706 0) = 0 →
    Q (-2) σ)
/-! Model.word(II)J -/
def wp_Model_word_b96 (cf : Cf) (tv : Nat → Int) (x1 : Int) (x2 : Int) (Q : Int → St → Prop) (K40 : Int → Int → Int → St → Prop) (y5 : Int) (y6 : Int) (t0 : Int) (t1 : Int) (σ : St) : Prop :=
  ∀ y3_31, y3_31 = lor t1 t0 →
  ∀ y6_32, y6_32 = w32 (y6 + 1) →
  K40 y3_31 y5 y6_32 σ
def wp_Model_word_b95 (cf : Cf) (tv : Nat → Int) (x1 : Int) (x2 : Int) (Q : Int → St → Prop) (K96 : Int → Int → Int → Int → St → Prop) (y5 : Int) (y6 : Int) (t0 : Int) (σ : St) : Prop :=
  K96 y5 y6 0 t0 σ
def wp_Model_word_L40 (cf : Cf) (tv : Nat → Int) (x1 : Int) (x2 : Int) (Q : Int → St → Prop) (K40 : Int → Int → Int → St → Prop) (y3 : Int) (y5 : Int) (y6 : Int) (σ : St) : Prop :=
  (8 ≤ y6 →
    Q y3 σ) ∧
  (¬ 8 ≤ y6 →
    ∀ y7_33, y7_33 = w64 (x2 + y6) →
    (y7_33 < 0 →
      wp_Model_word_b95 cf tv x1 x2 Q (wp_Model_word_b96 cf tv x1 x2 Q K40) y5 y6 y3 σ) ∧
    (¬ y7_33 < 0 →
      (y5 ≤ y7_33 →
        wp_Model_word_b95 cf tv x1 x2 Q (wp_Model_word_b96 cf tv x1 x2 Q K40) y5 y6 y3 σ) ∧
      (¬ y5 ≤ y7_33 →
        ((0 : Int) ≤ x1 ∧ x1 < 8) ∧
        wp_Model_byteOf cf tv (gA σ 711 0 x1) (w32 y7_33) (fun r_34 σ_35 => rI r_34 → RK σ_35 →
        wp_Model_word_b96 cf tv x1 x2 Q K40 y5 y6 (lshl r_34 (w32 (8 * y6))) y3 σ_35) σ)))
abbrev rm_Model_word : Room := { frames := 2, cells := 0, slots := 0, locals := 48 }
def wp_Model_word (cf : Cf) (tv : Nat → Int) (x1 : Int) (x2 : Int) (Q : Int → St → Prop) (σ : St) : Prop :=
  ((gI σ 706 0) = 0 →
    Q 0 σ) ∧
  (¬ (gI σ 706 0) = 0 →
    wp_Model_isHandle cf tv x1 (fun r_36 σ_37 => rZ r_36 → RK σ_37 →
    (¬ r_36 = 0 →
      ((0 : Int) ≤ x1 ∧ x1 < 8) ∧
      wp_Model_nodeOf cf tv 0 (gA σ_37 711 0 x1) (fun r_38 σ_39 => rI r_38 → RK σ_39 →
      ((0 : Int) ≤ r_38 ∧ r_38 < 1400) ∧
      ∀ y5_40, y5_40 = gA σ_39 716 0 r_38 →
      lQ3 (wp_Model_word_L40 cf tv x1 x2 Q) 0 y5_40 0 σ_39) σ_37) ∧
    (r_36 = 0 →
      Q 0 σ_37)) σ)
/-! Model.sum(I)J -/
def wp_Model_sum_b108 (cf : Cf) (tv : Nat → Int) (x1 : Int) (Q : Int → St → Prop) (K22 : Int → Int → St → Prop) (y2 : Int) (y4 : Int) (σ : St) : Prop :=
  ∀ y4_16, y4_16 = w32 (y4 + 1) →
  K22 y2 y4_16 σ
def wp_Model_sum_L36 (cf : Cf) (tv : Nat → Int) (x1 : Int) (Q : Int → St → Prop) (K22 : Int → Int → St → Prop) (K36 : Int → Int → Int → St → Prop) (y2 : Int) (y4 : Int) (y5 : Int) (σ : St) : Prop :=
  ((0 : Int) ≤ y4 ∧ y4 < 1440) ∧
  ((gA σ 728 0 y4) ≤ y5 →
    wp_Model_sum_b108 cf tv x1 Q K22 y2 y4 σ) ∧
  (¬ (gA σ 728 0 y4) ≤ y5 →
    ((0 : Int) ≤ y4 ∧ y4 < 1440) ∧
    ((0 : Int) ≤ x1 ∧ x1 < 8) ∧
    (¬ (gA σ 726 0 y4) = (gA σ 711 0 x1) →
      wp_Model_sum_b108 cf tv x1 Q K22 y2 y4 σ) ∧
    ((gA σ 726 0 y4) = (gA σ 711 0 x1) →
      ((0 : Int) ≤ w32 ((w32 (64 * y4)) + y5) ∧ w32 ((w32 (64 * y4)) + y5) < 92160) ∧
      ((0 : Int) ≤ y4 ∧ y4 < 1440) ∧
      ∀ y2_17, y2_17 = w64 (y2 + (w64 ((land (gA σ 729 0 (w32 ((w32 (64 * y4)) + y5))) 255) * (w32 ((w32 ((w32 (64 * (gA σ 727 0 y4))) + y5)) + 1))))) →
      ∀ y5_18, y5_18 = w32 (y5 + 1) →
      K36 y2_17 y4 y5_18 σ))
def wp_Model_sum_L22 (cf : Cf) (tv : Nat → Int) (x1 : Int) (Q : Int → St → Prop) (K22 : Int → Int → St → Prop) (y2 : Int) (y4 : Int) (σ : St) : Prop :=
  ((0 : Int) ≤ (0 : Int) ∧ (0 : Int) < 2) ∧
  ((gA σ 725 0 0) ≤ y4 →
    Q y2 σ) ∧
  (¬ (gA σ 725 0 0) ≤ y4 →
    lQ3 (wp_Model_sum_L36 cf tv x1 Q K22) y2 y4 0 σ)
abbrev rm_Model_sum : Room := { frames := 1, cells := 0, slots := 0, locals := 21 }
def wp_Model_sum (cf : Cf) (tv : Nat → Int) (x1 : Int) (Q : Int → St → Prop) (σ : St) : Prop :=
  ((gI σ 706 0) = 0 →
    Q 0 σ) ∧
  (¬ (gI σ 706 0) = 0 →
    wp_Model_isHandle cf tv x1 (fun r_19 σ_20 => rZ r_19 → RK σ_20 →
    (¬ r_19 = 0 →
      lQ2 (wp_Model_sum_L22 cf tv x1 Q) 0 0 σ_20) ∧
    (r_19 = 0 →
      Q 0 σ_20)) σ)
/-! Model.isRaw(I)Z -/
abbrev rm_Model_isRaw : Room := { frames := 0, cells := 0, slots := 0, locals := 0 }
def wp_Model_isRaw (cf : Cf) (tv : Nat → Int) (x1 : Int) (Q : Int → St → Prop) (σ : St) : Prop :=
  (x1 < 0 →
    Q 0 σ) ∧
  (¬ x1 < 0 →
    (cf.2.2 ≤ x1 →
      Q 0 σ) ∧
    (¬ cf.2.2 ≤ x1 →
      Q 1 σ))
/-! Model.rawPage(III)V -/
def wp_Model_rawPage_L3 (cf : Cf) (tv : Nat → Int) (x1 : Int) (x2 : Int) (x3 : Int) (Q : St → Prop) (K3 : Int → St → Prop) (y4 : Int) (σ : St) : Prop :=
  (128 ≤ y4 →
    Q σ) ∧
  (¬ 128 ≤ y4 →
    ((0 : Int) ≤ w32 ((w32 ((w32 (3840 * x1)) + (w32 (128 * x2)))) + y4) ∧ w32 ((w32 ((w32 (3840 * x1)) + (w32 (128 * x2)))) + y4) < 15360) ∧
    ∀ σ_5, σ_5 = sA σ 752 0 (w32 ((w32 ((w32 (3840 * x1)) + (w32 (128 * x2)))) + y4)) (b8 (w32 (x3 + (w32 (3 * y4))))) →
    ∀ y4_6, y4_6 = w32 (y4 + 1) →
    K3 y4_6 σ_5)
abbrev rm_Model_rawPage : Room := { frames := 0, cells := 0, slots := 0, locals := 0 }
def wp_Model_rawPage (cf : Cf) (tv : Nat → Int) (x1 : Int) (x2 : Int) (x3 : Int) (Q : St → Prop) (σ : St) : Prop :=
  lQ1 (wp_Model_rawPage_L3 cf tv x1 x2 x3 Q) 0 σ
/-! Model.rawWrite(II)I -/
abbrev rm_Model_rawWrite : Room := { frames := 1, cells := 0, slots := 0, locals := 24 }
def wp_Model_rawWrite (cf : Cf) (tv : Nat → Int) (x1 : Int) (x2 : Int) (Q : Int → St → Prop) (σ : St) : Prop :=
  (¬ (gI σ 706 0) = 0 →
    wp_Model_isRaw cf tv x1 (fun r_6 σ_7 => rZ r_6 → RK σ_7 →
    (¬ r_6 = 0 →
      ((0 : Int) ≤ x1 ∧ x1 < 4) ∧
      (¬ (gA σ_7 751 0 x1) = (jdv ((cf.2.1 - 2) * 128) 128) →
        ((0 : Int) ≤ x1 ∧ x1 < 4) ∧
        wp_Model_rawPage cf tv x1 (gA σ_7 751 0 x1) x2 (fun σ_9 => RK σ_9 →
        ((0 : Int) ≤ x1 ∧ x1 < 4) ∧
        ((0 : Int) ≤ x1 ∧ x1 < 4) ∧
        ∀ σ_10, σ_10 = sA σ_9 751 0 x1 (w32 ((gA σ_9 751 0 x1) + 1)) →
        ((0 : Int) ≤ x1 ∧ x1 < 4) ∧
        Q (w32 ((gA σ_10 751 0 x1) - 1)) σ_10) σ_7) ∧
      ((gA σ_7 751 0 x1) = (jdv ((cf.2.1 - 2) * 128) 128) →
        Q (-10) σ_7)) ∧
    (r_6 = 0 →
      Q (-3) σ_7)) σ) ∧
  ((gI σ 706 0) = 0 →
    Q (-2) σ)
/-! Model.rawChange(III)I -/
def wp_Model_rawChange_L48 (cf : Cf) (tv : Nat → Int) (x1 : Int) (x2 : Int) (x3 : Int) (Q : Int → St → Prop) (K48 : Int → Int → St → Prop) (y4 : Int) (y5 : Int) (σ : St) : Prop :=
  (x2 ≤ y5 →
    ((0 : Int) ≤ x1 ∧ x1 < 4) ∧
    ∀ σ_15, σ_15 = sA σ 751 0 x1 x2 →
    Q y4 σ_15) ∧
  (¬ x2 ≤ y5 →
    wp_Model_rawPage cf tv x1 y5 (w32 (x3 + (w32 (5 * y5)))) (fun σ_17 => RK σ_17 →
    ∀ y5_18, y5_18 = w32 (y5 + 1) →
    K48 y4 y5_18 σ_17) σ)
abbrev rm_Model_rawChange : Room := { frames := 1, cells := 0, slots := 0, locals := 24 }
def wp_Model_rawChange (cf : Cf) (tv : Nat → Int) (x1 : Int) (x2 : Int) (x3 : Int) (Q : Int → St → Prop) (σ : St) : Prop :=
  (¬ (gI σ 706 0) = 0 →
    wp_Model_isRaw cf tv x1 (fun r_19 σ_20 => rZ r_19 → RK σ_20 →
    (r_19 = 0 →
      Q (-3) σ_20) ∧
    (¬ r_19 = 0 →
      (x2 < 0 →
        Q (-3) σ_20) ∧
      (¬ x2 < 0 →
        (x2 ≤ (jdv ((cf.2.1 - 2) * 128) 128) →
          ((0 : Int) ≤ x1 ∧ x1 < 4) ∧
          ∀ y4_21, y4_21 = gA σ_20 751 0 x1 →
          lQ2 (wp_Model_rawChange_L48 cf tv x1 x2 x3 Q) y4_21 0 σ_20) ∧
        (¬ x2 ≤ (jdv ((cf.2.1 - 2) * 128) 128) →
          Q (-3) σ_20)))) σ) ∧
  ((gI σ 706 0) = 0 →
    Q (-2) σ)
/-! Model.rawByte(II)I -/
abbrev rm_Model_rawByte : Room := { frames := 1, cells := 0, slots := 0, locals := 21 }
def wp_Model_rawByte (cf : Cf) (tv : Nat → Int) (x1 : Int) (x2 : Int) (Q : Int → St → Prop) (σ : St) : Prop :=
  (¬ (gI σ 706 0) = 0 →
    wp_Model_isRaw cf tv x1 (fun r_3 σ_4 => rZ r_3 → RK σ_4 →
    (¬ r_3 = 0 →
      (x2 < 0 →
        Q (-1) σ_4) ∧
      (¬ x2 < 0 →
        ((0 : Int) ≤ x1 ∧ x1 < 4) ∧
        ((w32 (128 * (gA σ_4 751 0 x1))) ≤ x2 →
          Q (-1) σ_4) ∧
        (¬ (w32 (128 * (gA σ_4 751 0 x1))) ≤ x2 →
          ((0 : Int) ≤ w32 ((w32 (3840 * x1)) + x2) ∧ w32 ((w32 (3840 * x1)) + x2) < 15360) ∧
          Q (iand (gA σ_4 752 0 (w32 ((w32 (3840 * x1)) + x2))) 255) σ_4))) ∧
    (r_3 = 0 →
      Q (-3) σ_4)) σ) ∧
  ((gI σ 706 0) = 0 →
    Q (-2) σ)
/-! Model.rawPages(I)I -/
abbrev rm_Model_rawPages : Room := { frames := 1, cells := 0, slots := 0, locals := 21 }
def wp_Model_rawPages (cf : Cf) (tv : Nat → Int) (x1 : Int) (Q : Int → St → Prop) (σ : St) : Prop :=
  (¬ (gI σ 706 0) = 0 →
    wp_Model_isRaw cf tv x1 (fun r_3 σ_4 => rZ r_3 → RK σ_4 →
    (r_3 = 0 →
      Q (-3) σ_4) ∧
    (¬ r_3 = 0 →
      ((0 : Int) ≤ x1 ∧ x1 < 4) ∧
      Q (gA σ_4 751 0 x1) σ_4)) σ) ∧
  ((gI σ 706 0) = 0 →
    Q (-2) σ)
/-! Model.sync()I -/
abbrev rm_Model_sync : Room := { frames := 5, cells := 0, slots := 0, locals := 123 }
def wp_Model_sync (cf : Cf) (tv : Nat → Int) (Q : Int → St → Prop) (σ : St) : Prop :=
  (¬ (gI σ 706 0) = 0 →
    ∀ y1_5, y1_5 = gI σ 730 0 →
    wp_Model_becomesSafe cf tv (gI σ 730 0) (fun σ_7 => RK σ_7 →
    ∀ σ_8, σ_8 = sI σ_7 707 0 (w32 ((jdv (w32 ((gI σ_7 707 0) + 127)) 128) * 128)) →
    Q y1_5 σ_8) σ) ∧
  ((gI σ 706 0) = 0 →
    Q (-2) σ)
/-! Model.waiting()I -/
abbrev rm_Model_waiting : Room := { frames := 0, cells := 0, slots := 0, locals := 0 }
def wp_Model_waiting (cf : Cf) (tv : Nat → Int) (Q : Int → St → Prop) (σ : St) : Prop :=
  ((gI σ 706 0) = 0 →
    Q (-2) σ) ∧
  (¬ (gI σ 706 0) = 0 →
    Q (gI σ 730 0) σ)
/-! Model.copyTree(II)V -/
def wp_Model_copyTree_L417 (cf : Cf) (tv : Nat → Int) (x1 : Int) (x2 : Int) (Q : St → Prop) (K332 : Int → St → Prop) (K417 : Int → Int → St → Prop) (y3 : Int) (y4 : Int) (σ : St) : Prop :=
  (64 ≤ y4 →
    ∀ y3_70, y3_70 = w32 (y3 + 1) →
    K332 y3_70 σ) ∧
  (¬ 64 ≤ y4 →
    ((0 : Int) ≤ w32 ((w32 (64 * (w32 ((w32 (720 * x1)) + y3)))) + y4) ∧ w32 ((w32 (64 * (w32 ((w32 (720 * x1)) + y3)))) + y4) < 92160) ∧
    ((0 : Int) ≤ w32 ((w32 (64 * (w32 ((w32 (720 * x2)) + y3)))) + y4) ∧ w32 ((w32 (64 * (w32 ((w32 (720 * x2)) + y3)))) + y4) < 92160) ∧
    ∀ σ_71, σ_71 = sA σ 729 0 (w32 ((w32 (64 * (w32 ((w32 (720 * x2)) + y3)))) + y4)) (gA σ 729 0 (w32 ((w32 (64 * (w32 ((w32 (720 * x1)) + y3)))) + y4))) →
    ∀ y4_72, y4_72 = w32 (y4 + 1) →
    K417 y3 y4_72 σ_71)
def wp_Model_copyTree_L332 (cf : Cf) (tv : Nat → Int) (x1 : Int) (x2 : Int) (Q : St → Prop) (K332 : Int → St → Prop) (y3 : Int) (σ : St) : Prop :=
  ((0 : Int) ≤ x1 ∧ x1 < 2) ∧
  ((gA σ 725 0 x1) ≤ y3 →
    Q σ) ∧
  (¬ (gA σ 725 0 x1) ≤ y3 →
    ((0 : Int) ≤ w32 ((w32 (720 * x1)) + y3) ∧ w32 ((w32 (720 * x1)) + y3) < 1440) ∧
    ((0 : Int) ≤ w32 ((w32 (720 * x2)) + y3) ∧ w32 ((w32 (720 * x2)) + y3) < 1440) ∧
    ∀ σ_73, σ_73 = sA σ 726 0 (w32 ((w32 (720 * x2)) + y3)) (gA σ 726 0 (w32 ((w32 (720 * x1)) + y3))) →
    ((0 : Int) ≤ w32 ((w32 (720 * x1)) + y3) ∧ w32 ((w32 (720 * x1)) + y3) < 1440) ∧
    ((0 : Int) ≤ w32 ((w32 (720 * x2)) + y3) ∧ w32 ((w32 (720 * x2)) + y3) < 1440) ∧
    ∀ σ_74, σ_74 = sA σ_73 727 0 (w32 ((w32 (720 * x2)) + y3)) (gA σ_73 727 0 (w32 ((w32 (720 * x1)) + y3))) →
    ((0 : Int) ≤ w32 ((w32 (720 * x1)) + y3) ∧ w32 ((w32 (720 * x1)) + y3) < 1440) ∧
    ((0 : Int) ≤ w32 ((w32 (720 * x2)) + y3) ∧ w32 ((w32 (720 * x2)) + y3) < 1440) ∧
    ∀ σ_75, σ_75 = sA σ_74 728 0 (w32 ((w32 (720 * x2)) + y3)) (gA σ_74 728 0 (w32 ((w32 (720 * x1)) + y3))) →
    lQ2 (wp_Model_copyTree_L417 cf tv x1 x2 Q K332) y3 0 σ_75)
def wp_Model_copyTree_L242 (cf : Cf) (tv : Nat → Int) (x1 : Int) (x2 : Int) (Q : St → Prop) (K242 : Int → St → Prop) (y3 : Int) (σ : St) : Prop :=
  ((0 : Int) ≤ x1 ∧ x1 < 2) ∧
  ((gA σ 721 0 x1) ≤ y3 →
    lQ1 (wp_Model_copyTree_L332 cf tv x1 x2 Q) 0 σ) ∧
  (¬ (gA σ 721 0 x1) ≤ y3 →
    ((0 : Int) ≤ w32 ((w32 (700 * x1)) + y3) ∧ w32 ((w32 (700 * x1)) + y3) < 1400) ∧
    ((0 : Int) ≤ w32 ((w32 (700 * x2)) + y3) ∧ w32 ((w32 (700 * x2)) + y3) < 1400) ∧
    ∀ σ_76, σ_76 = sA σ 722 0 (w32 ((w32 (700 * x2)) + y3)) (gA σ 722 0 (w32 ((w32 (700 * x1)) + y3))) →
    ((0 : Int) ≤ w32 ((w32 (700 * x1)) + y3) ∧ w32 ((w32 (700 * x1)) + y3) < 1400) ∧
    ((0 : Int) ≤ w32 ((w32 (700 * x2)) + y3) ∧ w32 ((w32 (700 * x2)) + y3) < 1400) ∧
    ∀ σ_77, σ_77 = sA σ_76 723 0 (w32 ((w32 (700 * x2)) + y3)) (gA σ_76 723 0 (w32 ((w32 (700 * x1)) + y3))) →
    ((0 : Int) ≤ w32 ((w32 (700 * x1)) + y3) ∧ w32 ((w32 (700 * x1)) + y3) < 1400) ∧
    ((0 : Int) ≤ w32 ((w32 (700 * x2)) + y3) ∧ w32 ((w32 (700 * x2)) + y3) < 1400) ∧
    ∀ σ_78, σ_78 = sA σ_77 724 0 (w32 ((w32 (700 * x2)) + y3)) (gA σ_77 724 0 (w32 ((w32 (700 * x1)) + y3))) →
    ∀ y3_79, y3_79 = w32 (y3 + 1) →
    K242 y3_79 σ_78)
def wp_Model_copyTree_L140 (cf : Cf) (tv : Nat → Int) (x1 : Int) (x2 : Int) (Q : St → Prop) (K140 : Int → St → Prop) (y3 : Int) (σ : St) : Prop :=
  ((0 : Int) ≤ x1 ∧ x1 < 2) ∧
  ((gA σ 717 0 x1) ≤ y3 →
    ((0 : Int) ≤ x1 ∧ x1 < 2) ∧
    ((0 : Int) ≤ x2 ∧ x2 < 2) ∧
    ∀ σ_80, σ_80 = sA σ 721 0 x2 (gA σ 721 0 x1) →
    lQ1 (wp_Model_copyTree_L242 cf tv x1 x2 Q) 0 σ_80) ∧
  (¬ (gA σ 717 0 x1) ≤ y3 →
    ((0 : Int) ≤ w32 ((w32 (700 * x1)) + y3) ∧ w32 ((w32 (700 * x1)) + y3) < 1400) ∧
    ((0 : Int) ≤ w32 ((w32 (700 * x2)) + y3) ∧ w32 ((w32 (700 * x2)) + y3) < 1400) ∧
    ∀ σ_81, σ_81 = sA σ 718 0 (w32 ((w32 (700 * x2)) + y3)) (gA σ 718 0 (w32 ((w32 (700 * x1)) + y3))) →
    ((0 : Int) ≤ w32 ((w32 (700 * x1)) + y3) ∧ w32 ((w32 (700 * x1)) + y3) < 1400) ∧
    ((0 : Int) ≤ w32 ((w32 (700 * x2)) + y3) ∧ w32 ((w32 (700 * x2)) + y3) < 1400) ∧
    ∀ σ_82, σ_82 = sA σ_81 719 0 (w32 ((w32 (700 * x2)) + y3)) (gA σ_81 719 0 (w32 ((w32 (700 * x1)) + y3))) →
    ((0 : Int) ≤ w32 ((w32 (700 * x1)) + y3) ∧ w32 ((w32 (700 * x1)) + y3) < 1400) ∧
    ((0 : Int) ≤ w32 ((w32 (700 * x2)) + y3) ∧ w32 ((w32 (700 * x2)) + y3) < 1400) ∧
    ∀ σ_83, σ_83 = sA σ_82 720 0 (w32 ((w32 (700 * x2)) + y3)) (gA σ_82 720 0 (w32 ((w32 (700 * x1)) + y3))) →
    ∀ y3_84, y3_84 = w32 (y3 + 1) →
    K140 y3_84 σ_83)
def wp_Model_copyTree_L50 (cf : Cf) (tv : Nat → Int) (x1 : Int) (x2 : Int) (Q : St → Prop) (K50 : Int → St → Prop) (y3 : Int) (σ : St) : Prop :=
  ((0 : Int) ≤ x1 ∧ x1 < 2) ∧
  ((gA σ 713 0 x1) ≤ y3 →
    lQ1 (wp_Model_copyTree_L140 cf tv x1 x2 Q) 0 σ) ∧
  (¬ (gA σ 713 0 x1) ≤ y3 →
    ((0 : Int) ≤ w32 ((w32 (700 * x1)) + y3) ∧ w32 ((w32 (700 * x1)) + y3) < 1400) ∧
    ((0 : Int) ≤ w32 ((w32 (700 * x2)) + y3) ∧ w32 ((w32 (700 * x2)) + y3) < 1400) ∧
    ∀ σ_85, σ_85 = sA σ 714 0 (w32 ((w32 (700 * x2)) + y3)) (gA σ 714 0 (w32 ((w32 (700 * x1)) + y3))) →
    ((0 : Int) ≤ w32 ((w32 (700 * x1)) + y3) ∧ w32 ((w32 (700 * x1)) + y3) < 1400) ∧
    ((0 : Int) ≤ w32 ((w32 (700 * x2)) + y3) ∧ w32 ((w32 (700 * x2)) + y3) < 1400) ∧
    ∀ σ_86, σ_86 = sA σ_85 715 0 (w32 ((w32 (700 * x2)) + y3)) (gA σ_85 715 0 (w32 ((w32 (700 * x1)) + y3))) →
    ((0 : Int) ≤ w32 ((w32 (700 * x1)) + y3) ∧ w32 ((w32 (700 * x1)) + y3) < 1400) ∧
    ((0 : Int) ≤ w32 ((w32 (700 * x2)) + y3) ∧ w32 ((w32 (700 * x2)) + y3) < 1400) ∧
    ∀ σ_87, σ_87 = sA σ_86 716 0 (w32 ((w32 (700 * x2)) + y3)) (gA σ_86 716 0 (w32 ((w32 (700 * x1)) + y3))) →
    ∀ y3_88, y3_88 = w32 (y3 + 1) →
    K50 y3_88 σ_87)
abbrev rm_Model_copyTree : Room := { frames := 0, cells := 0, slots := 0, locals := 0 }
def wp_Model_copyTree (cf : Cf) (tv : Nat → Int) (x1 : Int) (x2 : Int) (Q : St → Prop) (σ : St) : Prop :=
  ((0 : Int) ≤ x1 ∧ x1 < 2) ∧
  ((0 : Int) ≤ x2 ∧ x2 < 2) ∧
  ∀ σ_89, σ_89 = sA σ 712 0 x2 (gA σ 712 0 x1) →
  ((0 : Int) ≤ x1 ∧ x1 < 2) ∧
  ((0 : Int) ≤ x2 ∧ x2 < 2) ∧
  ∀ σ_90, σ_90 = sA σ_89 713 0 x2 (gA σ_89 713 0 x1) →
  ((0 : Int) ≤ x1 ∧ x1 < 2) ∧
  ((0 : Int) ≤ x2 ∧ x2 < 2) ∧
  ∀ σ_91, σ_91 = sA σ_90 717 0 x2 (gA σ_90 717 0 x1) →
  ((0 : Int) ≤ x1 ∧ x1 < 2) ∧
  ((0 : Int) ≤ x2 ∧ x2 < 2) ∧
  ∀ σ_92, σ_92 = sA σ_91 725 0 x2 (gA σ_91 725 0 x1) →
  lQ1 (wp_Model_copyTree_L50 cf tv x1 x2 Q) 0 σ_92
/-! Model.cut()I -/
def wp_Model_cut_L105 (cf : Cf) (tv : Nat → Int) (Q : Int → St → Prop) (K105 : Int → Int → St → Prop) (y1 : Int) (y3 : Int) (σ : St) : Prop :=
  (8 ≤ y3 →
    ∀ σ_31, σ_31 = sI σ 743 0 0 →
    ∀ σ_32, σ_32 = sI σ_31 706 0 0 →
    Q y1 σ_32) ∧
  (¬ 8 ≤ y3 →
    ((0 : Int) ≤ y3 ∧ y3 < 8) ∧
    ∀ σ_33, σ_33 = sA σ 711 0 y3 0 →
    ∀ y3_34, y3_34 = w32 (y3 + 1) →
    K105 y1 y3_34 σ_33)
def wp_Model_cut_b91 (cf : Cf) (tv : Nat → Int) (Q : Int → St → Prop) (K29 : Int → Int → St → Prop) (y1 : Int) (y2 : Int) (σ : St) : Prop :=
  ∀ y2_35, y2_35 = w32 (y2 + 1) →
  K29 y1 y2_35 σ
def wp_Model_cut_L29 (cf : Cf) (tv : Nat → Int) (Q : Int → St → Prop) (K29 : Int → Int → St → Prop) (y1 : Int) (y2 : Int) (σ : St) : Prop :=
  ((0 : Int) ≤ (1 : Int) ∧ (1 : Int) < 2) ∧
  ((w32 (700 + (gA σ 713 0 1))) ≤ y2 →
    wp_Model_copyTree cf tv 1 0 (fun σ_37 => RK σ_37 →
    lQ2 (wp_Model_cut_L105 cf tv Q) y1 0 σ_37) σ) ∧
  (¬ (w32 (700 + (gA σ 713 0 1))) ≤ y2 →
    ((0 : Int) ≤ y2 ∧ y2 < 1400) ∧
    (¬ (gA σ 715 0 y2) = 2 →
      wp_Model_cut_b91 cf tv Q K29 y1 y2 σ) ∧
    ((gA σ 715 0 y2) = 2 →
      ((0 : Int) ≤ y2 ∧ y2 < 1400) ∧
      wp_Model_links cf tv 1 (gA σ 714 0 y2) (fun r_38 σ_39 => rI r_38 → RK σ_39 →
      (¬ r_38 = 0 →
        wp_Model_cut_b91 cf tv Q K29 y1 y2 σ_39) ∧
      (r_38 = 0 →
        ((0 : Int) ≤ y2 ∧ y2 < 1400) ∧
        wp_Model_dropNode cf tv 1 (gA σ_39 714 0 y2) (fun σ_41 => RK σ_41 →
        ∀ σ_42, σ_42 = sI σ_41 710 0 (w32 ((gI σ_41 710 0) + 1)) →
        K29 y1 y2 σ_42) σ_39)) σ))
abbrev rm_Model_cut : Room := { frames := 2, cells := 0, slots := 0, locals := 51 }
def wp_Model_cut (cf : Cf) (tv : Nat → Int) (Q : Int → St → Prop) (σ : St) : Prop :=
  (¬ (gI σ 706 0) = 0 →
    ∀ y1_43, y1_43 = gI σ 730 0 →
    ∀ σ_44, σ_44 = sI σ 730 0 0 →
    ∀ σ_45, σ_45 = sI σ_44 710 0 0 →
    lQ2 (wp_Model_cut_L29 cf tv Q) y1_43 700 σ_45) ∧
  ((gI σ 706 0) = 0 →
    Q (-2) σ)
/-! Model.on()I -/
abbrev rm_Model_on : Room := { frames := 0, cells := 0, slots := 0, locals := 0 }
def wp_Model_on (cf : Cf) (tv : Nat → Int) (Q : Int → St → Prop) (σ : St) : Prop :=
  ((gI σ 706 0) = 0 →
    ∀ σ_3, σ_3 = sI σ 706 0 1 →
    ∀ σ_4, σ_4 = sI σ_3 707 0 ((cf.2.1 - 2) * 128) →
    Q (gI σ_4 710 0) σ_4) ∧
  (¬ (gI σ 706 0) = 0 →
    Q (-1) σ)
/-! Model.work()V -/
abbrev rm_Model_work : Room := { frames := 0, cells := 0, slots := 0, locals := 0 }
def wp_Model_work (cf : Cf) (tv : Nat → Int) (Q : St → Prop) (σ : St) : Prop :=
  Q σ
/-! Model.fail(I)Z -/
def wp_Model_fail_b30 (cf : Cf) (tv : Nat → Int) (x1 : Int) (Q : Int → St → Prop) (K31 : Int → St → Prop) (σ : St) : Prop :=
  K31 0 σ
def wp_Model_fail_b31 (cf : Cf) (tv : Nat → Int) (x1 : Int) (Q : Int → St → Prop) (t0 : Int) (σ : St) : Prop :=
  ∀ σ_2, σ_2 = sI σ 708 0 (w32 ((gI σ 708 0) + (if t0 = 0 then (0 : Int) else (1 : Int)))) →
  Q t0 σ_2
abbrev rm_Model_fail : Room := { frames := 0, cells := 0, slots := 0, locals := 0 }
def wp_Model_fail (cf : Cf) (tv : Nat → Int) (x1 : Int) (Q : Int → St → Prop) (σ : St) : Prop :=
  ((gI σ 706 0) = 0 →
    wp_Model_fail_b30 cf tv x1 Q (wp_Model_fail_b31 cf tv x1 Q) σ) ∧
  (¬ (gI σ 706 0) = 0 →
    (x1 ≤ 0 →
      wp_Model_fail_b30 cf tv x1 Q (wp_Model_fail_b31 cf tv x1 Q) σ) ∧
    (¬ x1 ≤ 0 →
      (1000 < x1 →
        wp_Model_fail_b30 cf tv x1 Q (wp_Model_fail_b31 cf tv x1 Q) σ) ∧
      (¬ 1000 < x1 →
        (4 ≤ (gI σ 708 0) →
          wp_Model_fail_b30 cf tv x1 Q (wp_Model_fail_b31 cf tv x1 Q) σ) ∧
        (¬ 4 ≤ (gI σ 708 0) →
          wp_Model_fail_b31 cf tv x1 Q 1 σ))))
/-! Model.flip(I)Z -/
def wp_Model_flip_b25 (cf : Cf) (tv : Nat → Int) (x1 : Int) (Q : Int → St → Prop) (K26 : Int → St → Prop) (σ : St) : Prop :=
  K26 0 σ
def wp_Model_flip_b26 (cf : Cf) (tv : Nat → Int) (x1 : Int) (Q : Int → St → Prop) (t0 : Int) (σ : St) : Prop :=
  ∀ σ_2, σ_2 = sI σ 709 0 (w32 ((gI σ 709 0) + (if t0 = 0 then (0 : Int) else (1 : Int)))) →
  Q t0 σ_2
abbrev rm_Model_flip : Room := { frames := 0, cells := 0, slots := 0, locals := 0 }
def wp_Model_flip (cf : Cf) (tv : Nat → Int) (x1 : Int) (Q : Int → St → Prop) (σ : St) : Prop :=
  ((gI σ 706 0) = 0 →
    wp_Model_flip_b25 cf tv x1 Q (wp_Model_flip_b26 cf tv x1 Q) σ) ∧
  (¬ (gI σ 706 0) = 0 →
    (x1 < 0 →
      wp_Model_flip_b25 cf tv x1 Q (wp_Model_flip_b26 cf tv x1 Q) σ) ∧
    (¬ x1 < 0 →
      (200 ≤ (gI σ 709 0) →
        wp_Model_flip_b25 cf tv x1 Q (wp_Model_flip_b26 cf tv x1 Q) σ) ∧
      (¬ 200 ≤ (gI σ 709 0) →
        wp_Model_flip_b26 cf tv x1 Q 1 σ)))
/-! Model.told(I)I -/
def wp_Model_told_L14 (cf : Cf) (tv : Nat → Int) (x1 : Int) (Q : Int → St → Prop) (K14 : Int → Int → St → Prop) (y2 : Int) (y3 : Int) (σ : St) : Prop :=
  (8 ≤ y3 →
    (x1 = 0 →
      wp_Model_live cf tv (fun r_9 σ_10 => rI r_9 → RK σ_10 →
      Q r_9 σ_10) σ) ∧
    (x1 = 1 →
      Q (cap cf) σ) ∧
    (x1 = 2 →
      ((0 : Int) ≤ (0 : Int) ∧ (0 : Int) < 2) ∧
      Q (gA σ 713 0 0) σ) ∧
    (x1 = 3 →
      Q y2 σ) ∧
    (x1 = 4 →
      Q (gI σ 707 0) σ) ∧
    (x1 = 5 →
      ((0 : Int) ≤ (0 : Int) ∧ (0 : Int) < 2) ∧
      Q (gA σ 712 0 0) σ) ∧
    (x1 = 6 →
      Q (gI σ 708 0) σ) ∧
    (x1 = 7 →
      Q (gI σ 709 0) σ) ∧
    (x1 = 8 →
      Q (gI σ 743 0) σ) ∧
    ((x1 < 0 ∨ 8 < x1) →
    Q (-3) σ)) ∧
  (¬ 8 ≤ y3 →
    ((0 : Int) ≤ y3 ∧ y3 < 8) ∧
    ∀ y2_11, y2_11 = w32 (y2 + (if (gA σ 711 0 y3) = 0 then (0 : Int) else (1 : Int))) →
    ∀ y3_12, y3_12 = w32 (y3 + 1) →
    K14 y2_11 y3_12 σ)
abbrev rm_Model_told : Room := { frames := 2, cells := 0, slots := 0, locals := 42 }
def wp_Model_told (cf : Cf) (tv : Nat → Int) (x1 : Int) (Q : Int → St → Prop) (σ : St) : Prop :=
  (¬ (gI σ 706 0) = 0 →
    lQ2 (wp_Model_told_L14 cf tv x1 Q) 0 0 σ) ∧
  ((gI σ 706 0) = 0 →
    Q (-2) σ)
/-! Model.sound()Z -/
abbrev rm_Model_sound : Room := { frames := 0, cells := 0, slots := 0, locals := 0 }
def wp_Model_sound (cf : Cf) (tv : Nat → Int) (Q : Int → St → Prop) (σ : St) : Prop :=
  Q (gI σ 706 0) σ
