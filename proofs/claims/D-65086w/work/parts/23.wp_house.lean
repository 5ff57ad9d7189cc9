/-! House.count()V -/
def wp_House_count_L23 (cf : Cf) (tv : Nat → Int) (Q : St → Prop) (K23 : Int → St → Prop) (y1 : Int) (σ : St) : Prop :=
  (y1 = 0 →
    Q σ) ∧
  (¬ y1 = 0 →
    ∀ σ_9, σ_9 = sI σ 71 0 (w32 ((gI σ 71 0) + (w32 ((gI σ 395 0) + 192)))) →
    ∀ σ_10, σ_10 = sI σ_9 72 0 (w32 ((gI σ_9 72 0) + (if (jrl (gI σ_9 391 0) 4) = 0 then (1 : Int) else (0 : Int)))) →
    wp_Index_next cf tv 0 (fun r_11 σ_12 => rZ r_11 → RK σ_12 →
    K23 r_11 σ_12) σ_10)
abbrev rm_House_count : Room := { frames := 6, cells := 0, slots := 0, locals := 145 }
def wp_House_count (cf : Cf) (tv : Nat → Int) (Q : St → Prop) (σ : St) : Prop :=
  ∀ σ_13, σ_13 = sI σ 71 0 0 →
  ∀ σ_14, σ_14 = sI σ_13 72 0 0 →
  wp_Index_seek cf tv 0 0 0 (fun r_15 σ_16 => rZ r_15 → RK σ_16 →
  lQ1 (wp_House_count_L23 cf tv Q) r_15 σ_16) σ_14
/-! House.isName(J)Z -/
def wp_House_isName_b80 (cf : Cf) (tv : Nat → Int) (x0 : Int) (Q : Int → St → Prop) (K21 : Int → Int → Int → St → Prop) (y2 : Int) (y4 : Int) (t0 : Int) (σ : St) : Prop :=
  ∀ y4_13, y4_13 = w32 (y4 + 1) →
  K21 y2 t0 y4_13 σ
def wp_House_isName_b75 (cf : Cf) (tv : Nat → Int) (x0 : Int) (Q : Int → St → Prop) (K80 : Int → Int → Int → St → Prop) (y2 : Int) (y4 : Int) (σ : St) : Prop :=
  K80 y2 y4 1 σ
def wp_House_isName_b79 (cf : Cf) (tv : Nat → Int) (x0 : Int) (Q : Int → St → Prop) (K80 : Int → Int → Int → St → Prop) (y2 : Int) (y4 : Int) (σ : St) : Prop :=
  K80 y2 y4 0 σ
def wp_House_isName_L21 (cf : Cf) (tv : Nat → Int) (x0 : Int) (Q : Int → St → Prop) (K21 : Int → Int → Int → St → Prop) (y2 : Int) (y3 : Int) (y4 : Int) (σ : St) : Prop :=
  (8 ≤ y4 →
    Q y3 σ) ∧
  (¬ 8 ≤ y4 →
    (y3 = 0 →
      Q y3 σ) ∧
    (¬ y3 = 0 →
      ∀ y5_14, y5_14 = iand (w32 (lushr x0 (w32 (8 * y4)))) 255 →
      ∀ y2_15, y2_15 = ior y2 (if y5_14 = 0 then (1 : Int) else (0 : Int)) →
      (y5_14 = 47 →
        wp_House_isName_b79 cf tv x0 Q (wp_House_isName_b80 cf tv x0 Q K21) y2_15 y4 σ) ∧
      (¬ y5_14 = 47 →
        (y5_14 = 0 →
          wp_House_isName_b75 cf tv x0 Q (wp_House_isName_b80 cf tv x0 Q K21) y2_15 y4 σ) ∧
        (¬ y5_14 = 0 →
          (¬ y2_15 = 0 →
            wp_House_isName_b79 cf tv x0 Q (wp_House_isName_b80 cf tv x0 Q K21) y2_15 y4 σ) ∧
          (y2_15 = 0 →
            wp_House_isName_b75 cf tv x0 Q (wp_House_isName_b80 cf tv x0 Q K21) y2_15 y4 σ)))))
abbrev rm_House_isName : Room := { frames := 0, cells := 0, slots := 0, locals := 0 }
def wp_House_isName (cf : Cf) (tv : Nat → Int) (x0 : Int) (Q : Int → St → Prop) (σ : St) : Prop :=
  ∀ y3_16, y3_16 = (if (land x0 255) = 0 then (0 : Int) else (1 : Int)) →
  lQ3 (wp_House_isName_L21 cf tv x0 Q) 0 y3_16 0 σ
/-! House.read(ILNandHouse$Inode;)Z -/
abbrev rm_House_read : Room := { frames := 6, cells := 0, slots := 0, locals := 180 }
def wp_House_read (cf : Cf) (tv : Nat → Int) (x1 : Int) (x2 : Int) (Q : Int → St → Prop) (σ : St) : Prop :=
  (x1 < 1 →
    Q 0 σ) ∧
  (¬ x1 < 1 →
    wp_House_keyOf cf tv x1 0 (fun r_23 σ_24 => rJ r_23 → RK σ_24 →
    wp_Index_find cf tv 0 r_23 0 (fun r_25 σ_26 => rZ r_25 → RK σ_26 →
    (¬ r_25 = 0 →
      wp_Store_read cf tv 0 (gI σ_26 393 0) (gI σ_26 394 0) (gI σ_26 395 0) 0 (fun σ_28 => RK σ_28 →
      ∀ σ_29, σ_29 = sI σ_28 640 x2 x1 →
      wp_Row_get cf tv 0 4 (fun r_30 σ_31 => rI r_30 → RK σ_31 →
      ∀ σ_32, σ_32 = sI σ_31 641 x2 r_30 →
      wp_Row_get cf tv 0 8 (fun r_33 σ_34 => rI r_33 → RK σ_34 →
      ∀ σ_35, σ_35 = sI σ_34 642 x2 r_33 →
      wp_Row_get cf tv 0 12 (fun r_36 σ_37 => rI r_36 → RK σ_37 →
      ∀ σ_38, σ_38 = sI σ_37 643 x2 r_36 →
      wp_Row_get cf tv 0 16 (fun r_39 σ_40 => rI r_39 → RK σ_40 →
      ∀ σ_41, σ_41 = sI σ_40 644 x2 r_39 →
      wp_Row_get cf tv 0 20 (fun r_42 σ_43 => rI r_42 → RK σ_43 →
      ∀ σ_44, σ_44 = sI σ_43 645 x2 r_42 →
      Q 1 σ_44) σ_41) σ_38) σ_35) σ_32) σ_29) σ_26) ∧
    (r_25 = 0 →
      Q 0 σ_26)) σ_24) σ)
/-! House.directory(ILNandHouse$Inode;)I -/
abbrev rm_House_directory : Room := { frames := 7, cells := 0, slots := 0, locals := 203 }
def wp_House_directory (cf : Cf) (tv : Nat → Int) (x1 : Int) (x2 : Int) (Q : Int → St → Prop) (σ : St) : Prop :=
  wp_House_read cf tv x1 x2 (fun r_3 σ_4 => rZ r_3 → RK σ_4 →
  (¬ r_3 = 0 →
    ((gI σ_4 641 x2) = 1 →
      Q 0 σ_4) ∧
    (¬ (gI σ_4 641 x2) = 1 →
      Q (-6) σ_4)) ∧
  (r_3 = 0 →
    Q (-4) σ_4)) σ
/-! House.entry(IJ)I -/
def wp_House_entry_b171 (cf : Cf) (tv : Nat → Int) (x1 : Int) (x2 : Int) (Q : Int → St → Prop) (σ : St) : Prop :=
  ∀ σ_19, σ_19 = sI σ 91 0 (gI σ 92 0) →
  Q 0 σ_19
def wp_House_entry_b103 (cf : Cf) (tv : Nat → Int) (x1 : Int) (x2 : Int) (Q : Int → St → Prop) (K38 : Int → Int → Int → St → Prop) (y5 : Int) (y7 : Int) (σ : St) : Prop :=
  wp_Store_read cf tv 0 (gI σ 393 0) (gI σ 394 0) (gI σ 395 0) 0 (fun σ_21 => RK σ_21 →
  wp_Row_getLongAt cf tv 0 8 (fun r_22 σ_23 => rJ r_22 → RK σ_23 →
  (¬ r_22 = x2 →
    wp_Index_next cf tv 0 (fun r_24 σ_25 => rZ r_24 → RK σ_25 →
    K38 y5 y7 r_24 σ_25) σ_23) ∧
  (r_22 = x2 →
    wp_Row_get cf tv 0 4 (fun r_26 σ_27 => rI r_26 → RK σ_27 →
    Q r_26 σ_27) σ_23)) σ_21) σ
def wp_House_entry_L38 (cf : Cf) (tv : Nat → Int) (x1 : Int) (x2 : Int) (Q : Int → St → Prop) (K38 : Int → Int → Int → St → Prop) (y5 : Int) (y7 : Int) (y9 : Int) (σ : St) : Prop :=
  (y9 = 0 →
    wp_House_entry_b171 cf tv x1 x2 Q σ) ∧
  (¬ y9 = 0 →
    (¬ (gI σ 391 0) = y5 →
      wp_House_entry_b171 cf tv x1 x2 Q σ) ∧
    ((gI σ 391 0) = y5 →
      ((w64 (y7 + 1024)) ≤ (gI σ 392 0) →
        wp_House_entry_b171 cf tv x1 x2 Q σ) ∧
      (¬ (w64 (y7 + 1024)) ≤ (gI σ 392 0) →
        ∀ σ_28, σ_28 = sI σ 91 0 (w32 (w64 ((gI σ 392 0) - y7))) →
        (¬ (gI σ_28 91 0) = (gI σ_28 92 0) →
          wp_House_entry_b103 cf tv x1 x2 Q K38 y5 y7 σ_28) ∧
        ((gI σ_28 91 0) = (gI σ_28 92 0) →
          ∀ σ_29, σ_29 = sI σ_28 92 0 (w32 ((gI σ_28 92 0) + 1)) →
          wp_House_entry_b103 cf tv x1 x2 Q K38 y5 y7 σ_29))))
abbrev rm_House_entry : Room := { frames := 6, cells := 0, slots := 0, locals := 180 }
def wp_House_entry (cf : Cf) (tv : Nat → Int) (x1 : Int) (x2 : Int) (Q : Int → St → Prop) (σ : St) : Prop :=
  wp_House_keyOf cf tv x1 2 (fun r_30 σ_31 => rJ r_30 → RK σ_31 →
  wp_House_hash cf tv x2 (fun r_32 σ_33 => rJ r_32 → RK σ_33 →
  ∀ σ_34, σ_34 = sI σ_33 92 0 0 →
  wp_Index_seek cf tv 0 r_30 r_32 (fun r_35 σ_36 => rZ r_35 → RK σ_36 →
  lQ3 (wp_House_entry_L38 cf tv x1 x2 Q) r_30 r_32 r_35 σ_36) σ_34) σ_31) σ
/-! House.itemOf(I)I -/
abbrev rm_House_itemOf : Room := { frames := 1, cells := 0, slots := 0, locals := 20 }
def wp_House_itemOf (cf : Cf) (tv : Nat → Int) (x0 : Int) (Q : Int → St → Prop) (σ : St) : Prop :=
  (¬ x0 = 0 →
    wp_House_eights cf tv x0 (fun r_3 σ_4 => rI r_3 → RK σ_4 →
    Q (w32 ((w32 (32 + r_3)) + 192)) σ_4) σ) ∧
  (x0 = 0 →
    Q 0 σ)
/-! House.begin()V -/
abbrev rm_House_begin : Room := { frames := 1, cells := 0, slots := 0, locals := 20 }
def wp_House_begin (cf : Cf) (tv : Nat → Int) (Q : St → Prop) (σ : St) : Prop :=
  wp_Row_clear cf tv 6 (fun σ_4 => RK σ_4 →
  Q σ_4) σ
/-! House.addEntry(IJII)V -/
abbrev rm_House_addEntry : Room := { frames := 3, cells := 0, slots := 0, locals := 69 }
def wp_House_addEntry (cf : Cf) (tv : Nat → Int) (x1 : Int) (x2 : Int) (x4 : Int) (x5 : Int) (Q : St → Prop) (σ : St) : Prop :=
  wp_Row_begin cf tv 6 2 48 (fun σ_14 => RK σ_14 →
  wp_Row_put cf tv 6 0 x1 (fun σ_16 => RK σ_16 →
  wp_Row_put cf tv 6 4 x4 (fun σ_18 => RK σ_18 →
  wp_Row_putLongAt cf tv 6 8 x2 (fun σ_20 => RK σ_20 →
  wp_Row_put cf tv 6 16 x5 (fun σ_22 => RK σ_22 →
  wp_Row_close cf tv 6 0 0 (fun σ_24 => RK σ_24 →
  Q σ_24) σ_22) σ_20) σ_18) σ_16) σ_14) σ
/-! House.addInode(LNandHouse$Inode;Z)V -/
abbrev rm_House_addInode : Room := { frames := 3, cells := 0, slots := 0, locals := 69 }
def wp_House_addInode (cf : Cf) (tv : Nat → Int) (x1 : Int) (x2 : Int) (Q : St → Prop) (σ : St) : Prop :=
  wp_Row_begin cf tv 6 1 48 (fun σ_18 => RK σ_18 →
  wp_Row_put cf tv 6 0 (gI σ_18 640 x1) (fun σ_20 => RK σ_20 →
  wp_Row_put cf tv 6 4 (gI σ_20 641 x1) (fun σ_22 => RK σ_22 →
  wp_Row_put cf tv 6 8 (gI σ_22 642 x1) (fun σ_24 => RK σ_24 →
  wp_Row_put cf tv 6 12 (gI σ_24 643 x1) (fun σ_26 => RK σ_26 →
  wp_Row_put cf tv 6 16 (gI σ_26 644 x1) (fun σ_28 => RK σ_28 →
  wp_Row_put cf tv 6 20 (gI σ_28 645 x1) (fun σ_30 => RK σ_30 →
  wp_Row_close cf tv 6 0 x2 (fun σ_32 => RK σ_32 →
  Q σ_32) σ_30) σ_28) σ_26) σ_24) σ_22) σ_20) σ_18) σ
/-! House.addPiece(III)V -/
abbrev rm_House_addPiece : Room := { frames := 3, cells := 0, slots := 0, locals := 80 }
def wp_House_addPiece (cf : Cf) (tv : Nat → Int) (x1 : Int) (x2 : Int) (x3 : Int) (Q : St → Prop) (σ : St) : Prop :=
  wp_House_eights cf tv x3 (fun r_12 σ_13 => rI r_12 → RK σ_13 →
  wp_Row_begin cf tv 6 3 (w32 (32 + r_12)) (fun σ_15 => RK σ_15 →
  wp_Row_put cf tv 6 0 x1 (fun σ_17 => RK σ_17 →
  wp_Row_put cf tv 6 4 (ior x2 (ishl x3 16)) (fun σ_19 => RK σ_19 →
  (((0 : Int) ≤ (0 : Int) ∧ (0 : Int) ≤ w32 ((gI σ_19 513 6) + 32) ∧ (0 : Int) ≤ x3) ∧ (0 : Int) + x3 ≤ 64 ∧ (w32 ((gI σ_19 513 6) + 32)) + x3 ≤ (rowL 6)) ∧
  ∀ σ_20, σ_20 = sAr σ_19 512 6 (cpy (gA σ_19 77 0) (gA σ_19 512 6) 0 (w32 ((gI σ_19 513 6) + 32)) x3) →
  wp_Row_close cf tv 6 0 0 (fun σ_22 => RK σ_22 →
  Q σ_22) σ_20) σ_17) σ_15) σ_13) σ
/-! House.hand()V -/
def wp_House_hand_L13 (cf : Cf) (tv : Nat → Int) (Q : St → Prop) (K13 : Int → St → Prop) (y1 : Int) (σ : St) : Prop :=
  ((gI σ 514 6) ≤ y1 →
    Q σ) ∧
  (¬ (gI σ 514 6) ≤ y1 →
    ∀ σ_17, σ_17 = sI σ 513 6 y1 →
    wp_Row_length cf tv 6 (fun r_18 σ_19 => rI r_18 → RK σ_19 →
    wp_Store_apply cf tv 0 6 (gI σ_19 206 0) (w32 ((gI σ_19 207 0) + y1)) (fun σ_21 => RK σ_21 →
    ∀ y1_22, y1_22 = w32 (y1 + r_18) →
    K13 y1_22 σ_21) σ_19) σ_17)
abbrev rm_House_hand : Room := { frames := 23, cells := 0, slots := 0, locals := 601 }
def wp_House_hand (cf : Cf) (tv : Nat → Int) (Q : St → Prop) (σ : St) : Prop :=
  wp_Store_hand cf tv 0 6 (fun σ_24 => RK σ_24 →
  lQ1 (wp_House_hand_L13 cf tv Q) 0 σ_24) σ
/-! House.make(IJI)I -/
def wp_House_make_b274 (cf : Cf) (tv : Nat → Int) (x1 : Int) (x2 : Int) (x4 : Int) (Q : Int → St → Prop) (y7 : Int) (σ : St) : Prop :=
  wp_House_addInode cf tv 0 1 (fun σ_72 => RK σ_72 →
  wp_House_hand cf tv (fun σ_74 => RK σ_74 →
  ∀ σ_75, σ_75 = sI σ_74 71 0 (w32 ((gI σ_74 71 0) + y7)) →
  ∀ σ_76, σ_76 = sI σ_75 72 0 (w32 ((gI σ_75 72 0) + 1)) →
  Q (gI σ_76 640 1) σ_76) σ_72) σ
def wp_House_make_b169 (cf : Cf) (tv : Nat → Int) (x1 : Int) (x2 : Int) (x4 : Int) (Q : Int → St → Prop) (y5 : Int) (y7 : Int) (t0 : Int) (σ : St) : Prop :=
  ∀ σ_77, σ_77 = sI σ 643 1 t0 →
  ∀ σ_78, σ_78 = sI σ_77 644 1 0 →
  ∀ σ_79, σ_79 = sI σ_78 645 1 0 →
  ∀ σ_80, σ_80 = sI σ_79 644 0 (w32 ((gI σ_79 644 0) + 1)) →
  wp_House_begin cf tv (fun σ_82 => RK σ_82 →
  wp_House_addEntry cf tv x1 x2 (gI σ_82 640 1) (gI σ_82 91 0) (fun σ_84 => RK σ_84 →
  wp_House_addInode cf tv 1 0 (fun σ_86 => RK σ_86 →
  (y5 = 0 →
    wp_House_make_b274 cf tv x1 x2 x4 Q y7 σ_86) ∧
  (¬ y5 = 0 →
    (((0 : Int) ≤ (0 : Int) ∧ (0 : Int) ≤ (0 : Int) ∧ (0 : Int) ≤ gI σ_86 88 0) ∧ (0 : Int) + (gI σ_86 88 0) ≤ 200 ∧ (0 : Int) + (gI σ_86 88 0) ≤ 64) ∧
    ∀ σ_87, σ_87 = sAr σ_86 77 0 (cpy (gA σ_86 87 0) (gA σ_86 77 0) 0 0 (gI σ_86 88 0)) →
    wp_House_addPiece cf tv (gI σ_87 640 1) 0 (gI σ_87 88 0) (fun σ_89 => RK σ_89 →
    ∀ σ_90, σ_90 = sI σ_89 88 0 0 →
    wp_House_make_b274 cf tv x1 x2 x4 Q y7 σ_90) σ_87)) σ_84) σ_82) σ_80
def wp_House_make_b101 (cf : Cf) (tv : Nat → Int) (x1 : Int) (x2 : Int) (x4 : Int) (Q : Int → St → Prop) (y5 : Int) (t0 : Int) (t1 : Int) (σ : St) : Prop :=
  ∀ y7_91, y7_91 = w32 (t1 + t0) →
  ((w32 ((gI σ 71 0) + y7_91)) ≤ (cap cf) →
    ∀ σ_92, σ_92 = sI σ 640 1 (gI σ 203 0) →
    ∀ σ_93, σ_93 = sI σ_92 641 1 x4 →
    ∀ σ_94, σ_94 = sI σ_93 642 1 1 →
    (y5 = 0 →
      wp_House_make_b169 cf tv x1 x2 x4 Q y5 y7_91 0 σ_94) ∧
    (¬ y5 = 0 →
      wp_House_make_b169 cf tv x1 x2 x4 Q y5 y7_91 (gI σ_94 88 0) σ_94)) ∧
  (¬ (w32 ((gI σ 71 0) + y7_91)) ≤ (cap cf) →
    Q (-10) σ)
def wp_House_make_b51 (cf : Cf) (tv : Nat → Int) (x1 : Int) (x2 : Int) (x4 : Int) (Q : Int → St → Prop) (y5 : Int) (σ : St) : Prop :=
  wp_House_directory cf tv x1 0 (fun r_95 σ_96 => rI r_95 → RK σ_96 →
  (0 ≤ r_95 →
    wp_House_entry cf tv x1 x2 (fun r_97 σ_98 => rI r_97 → RK σ_98 →
    (r_97 ≤ 0 →
      (y5 = 0 →
        wp_House_make_b101 cf tv x1 x2 x4 Q y5 0 480 σ_98) ∧
      (¬ y5 = 0 →
        wp_House_itemOf cf tv (gI σ_98 88 0) (fun r_99 σ_100 => rI r_99 → RK σ_100 →
        wp_House_make_b101 cf tv x1 x2 x4 Q y5 r_99 480 σ_100) σ_98)) ∧
    (¬ r_97 ≤ 0 →
      Q (-5) σ_98)) σ_96) ∧
  (¬ 0 ≤ r_95 →
    Q r_95 σ_96)) σ
abbrev rm_House_make : Room := { frames := 24, cells := 0, slots := 0, locals := 623 }
def wp_House_make (cf : Cf) (tv : Nat → Int) (x1 : Int) (x2 : Int) (x4 : Int) (Q : Int → St → Prop) (σ : St) : Prop :=
  (¬ (gI σ 69 0) = 0 →
    ∀ y5_101, y5_101 = (if x4 = 3 then (1 : Int) else (0 : Int)) →
    wp_House_isName cf tv x2 (fun r_102 σ_103 => rZ r_102 → RK σ_103 →
    (r_102 = 0 →
      Q (-3) σ_103) ∧
    (¬ r_102 = 0 →
      (y5_101 = 0 →
        wp_House_make_b51 cf tv x1 x2 x4 Q y5_101 σ_103) ∧
      (¬ y5_101 = 0 →
        wp_House_isIn cf tv (gI σ_103 88 0) 1 64 (fun r_104 σ_105 => rZ r_104 → RK σ_105 →
        (¬ r_104 = 0 →
          wp_House_make_b51 cf tv x1 x2 x4 Q y5_101 σ_105) ∧
        (r_104 = 0 →
          Q (-3) σ_105)) σ_103))) σ) ∧
  ((gI σ 69 0) = 0 →
    Q (-2) σ)
/-! House.create(IJ)I -/
abbrev rm_House_create : Room := { frames := 25, cells := 0, slots := 0, locals := 650 }
def wp_House_create (cf : Cf) (tv : Nat → Int) (x1 : Int) (x2 : Int) (Q : Int → St → Prop) (σ : St) : Prop :=
  wp_House_make cf tv x1 x2 2 (fun r_3 σ_4 => rI r_3 → RK σ_4 →
  Q r_3 σ_4) σ
/-! House.mkdir(IJ)I -/
abbrev rm_House_mkdir : Room := { frames := 25, cells := 0, slots := 0, locals := 650 }
def wp_House_mkdir (cf : Cf) (tv : Nat → Int) (x1 : Int) (x2 : Int) (Q : Int → St → Prop) (σ : St) : Prop :=
  wp_House_make cf tv x1 x2 1 (fun r_3 σ_4 => rI r_3 → RK σ_4 →
  Q r_3 σ_4) σ
/-! House.sign(IJ)I -/
abbrev rm_House_sign : Room := { frames := 25, cells := 0, slots := 0, locals := 650 }
def wp_House_sign (cf : Cf) (tv : Nat → Int) (x1 : Int) (x2 : Int) (Q : Int → St → Prop) (σ : St) : Prop :=
  wp_House_make cf tv x1 x2 3 (fun r_3 σ_4 => rI r_3 → RK σ_4 →
  Q r_3 σ_4) σ
/-! House.link(IIJ)I -/
def wp_House_link_b56 (cf : Cf) (tv : Nat → Int) (x1 : Int) (x2 : Int) (x3 : Int) (Q : Int → St → Prop) (σ : St) : Prop :=
  ((gI σ 641 1) = 2 →
    wp_House_directory cf tv x2 0 (fun r_22 σ_23 => rI r_22 → RK σ_23 →
    (0 ≤ r_22 →
      wp_House_entry cf tv x2 x3 (fun r_24 σ_25 => rI r_24 → RK σ_25 →
      (r_24 ≤ 0 →
        ((w32 ((w32 ((gI σ_25 71 0) + 48)) + 192)) ≤ (cap cf) →
          ∀ σ_26, σ_26 = sI σ_25 642 1 (w32 ((gI σ_25 642 1) + 1)) →
          ∀ σ_27, σ_27 = sI σ_26 644 0 (w32 ((gI σ_26 644 0) + 1)) →
          wp_House_begin cf tv (fun σ_29 => RK σ_29 →
          wp_House_addEntry cf tv x2 x3 x1 (gI σ_29 91 0) (fun σ_31 => RK σ_31 →
          wp_House_addInode cf tv 1 0 (fun σ_33 => RK σ_33 →
          wp_House_addInode cf tv 0 1 (fun σ_35 => RK σ_35 →
          wp_House_hand cf tv (fun σ_37 => RK σ_37 →
          ∀ σ_38, σ_38 = sI σ_37 71 0 (w32 ((gI σ_37 71 0) + 240)) →
          Q (gI σ_38 642 1) σ_38) σ_35) σ_33) σ_31) σ_29) σ_27) ∧
        (¬ (w32 ((w32 ((gI σ_25 71 0) + 48)) + 192)) ≤ (cap cf) →
          Q (-10) σ_25)) ∧
      (¬ r_24 ≤ 0 →
        Q (-5) σ_25)) σ_23) ∧
    (¬ 0 ≤ r_22 →
      Q r_22 σ_23)) σ) ∧
  (¬ (gI σ 641 1) = 2 →
    Q (if (gI σ 641 1) = 1 then (-7 : Int) else (-11 : Int)) σ)
abbrev rm_House_link : Room := { frames := 24, cells := 0, slots := 0, locals := 623 }
def wp_House_link (cf : Cf) (tv : Nat → Int) (x1 : Int) (x2 : Int) (x3 : Int) (Q : Int → St → Prop) (σ : St) : Prop :=
  (¬ (gI σ 69 0) = 0 →
    wp_House_isName cf tv x3 (fun r_39 σ_40 => rZ r_39 → RK σ_40 →
    (¬ r_39 = 0 →
      wp_House_read cf tv x1 1 (fun r_41 σ_42 => rZ r_41 → RK σ_42 →
      (r_41 = 0 →
        Q (-4) σ_42) ∧
      (¬ r_41 = 0 →
        (¬ (gI σ_42 641 1) = 2 →
          wp_House_link_b56 cf tv x1 x2 x3 Q σ_42) ∧
        ((gI σ_42 641 1) = 2 →
          (¬ (gI σ_42 642 1) = 0 →
            wp_House_link_b56 cf tv x1 x2 x3 Q σ_42) ∧
          ((gI σ_42 642 1) = 0 →
            Q (-4) σ_42)))) σ_40) ∧
    (r_39 = 0 →
      Q (-3) σ_40)) σ) ∧
  ((gI σ 69 0) = 0 →
    Q (-2) σ)
/-! House.named(IJ)I -/
abbrev rm_House_named : Room := { frames := 8, cells := 0, slots := 0, locals := 225 }
def wp_House_named (cf : Cf) (tv : Nat → Int) (x1 : Int) (x2 : Int) (Q : Int → St → Prop) (σ : St) : Prop :=
  wp_House_isName cf tv x2 (fun r_9 σ_10 => rZ r_9 → RK σ_10 →
  (¬ r_9 = 0 →
    wp_House_directory cf tv x1 0 (fun r_11 σ_12 => rI r_11 → RK σ_12 →
    (0 ≤ r_11 →
      wp_House_entry cf tv x1 x2 (fun r_13 σ_14 => rI r_13 → RK σ_14 →
      wp_House_read cf tv r_13 1 (fun r_15 σ_16 => rZ r_15 → RK σ_16 →
      Q (if r_15 = 0 then (-4 : Int) else (0 : Int)) σ_16) σ_14) σ_12) ∧
    (¬ 0 ≤ r_11 →
      Q r_11 σ_12)) σ_10) ∧
  (r_9 = 0 →
    Q (-3) σ_10)) σ
/-! House.isOpen(I)Z -/
def wp_House_isOpen_L2 (cf : Cf) (tv : Nat → Int) (x1 : Int) (Q : Int → St → Prop) (K2 : Int → St → Prop) (y2 : Int) (σ : St) : Prop :=
  (8 ≤ y2 →
    Q 0 σ) ∧
  (¬ 8 ≤ y2 →
    ((0 : Int) ≤ y2 ∧ y2 < 8) ∧
    (¬ (gA σ 70 0 y2) = x1 →
      ∀ y2_3, y2_3 = w32 (y2 + 1) →
      K2 y2_3 σ) ∧
    ((gA σ 70 0 y2) = x1 →
      Q 1 σ))
abbrev rm_House_isOpen : Room := { frames := 0, cells := 0, slots := 0, locals := 0 }
def wp_House_isOpen (cf : Cf) (tv : Nat → Int) (x1 : Int) (Q : Int → St → Prop) (σ : St) : Prop :=
  lQ1 (wp_House_isOpen_L2 cf tv x1 Q) 0 σ
/-! House.roomOf(I)I -/
def wp_House_roomOf_b80 (cf : Cf) (tv : Nat → Int) (x1 : Int) (Q : Int → St → Prop) (K19 : Int → Int → St → Prop) (t0 : Int) (t1 : Int) (σ : St) : Prop :=
  ∀ y2_34, y2_34 = w32 (t1 + t0) →
  wp_Index_next cf tv 0 (fun r_35 σ_36 => rZ r_35 → RK σ_36 →
  K19 y2_34 r_35 σ_36) σ
def wp_House_roomOf_L19 (cf : Cf) (tv : Nat → Int) (x1 : Int) (Q : Int → St → Prop) (K19 : Int → Int → St → Prop) (y2 : Int) (y3 : Int) (σ : St) : Prop :=
  (y3 = 0 →
    Q y2 σ) ∧
  (¬ y3 = 0 →
    wp_House_keyOf cf tv x1 3 (fun r_37 σ_38 => rJ r_37 → RK σ_38 →
    (r_37 < (gI σ 391 0) →
      Q y2 σ_38) ∧
    (¬ r_37 < (gI σ 391 0) →
      wp_House_keyOf cf tv x1 2 (fun r_39 σ_40 => rJ r_39 → RK σ_40 →
      (¬ (gI σ_38 391 0) = r_39 →
        wp_House_roomOf_b80 cf tv x1 Q K19 (w32 ((gI σ_40 395 0) + 192)) y2 σ_40) ∧
      ((gI σ_38 391 0) = r_39 →
        wp_House_roomOf_b80 cf tv x1 Q K19 0 y2 σ_40)) σ_38)) σ)
abbrev rm_House_roomOf : Room := { frames := 6, cells := 0, slots := 0, locals := 145 }
def wp_House_roomOf (cf : Cf) (tv : Nat → Int) (x1 : Int) (Q : Int → St → Prop) (σ : St) : Prop :=
  wp_House_keyOf cf tv x1 0 (fun r_41 σ_42 => rJ r_41 → RK σ_42 →
  wp_Index_seek cf tv 0 r_41 0 (fun r_43 σ_44 => rZ r_43 → RK σ_44 →
  lQ2 (wp_House_roomOf_L19 cf tv x1 Q) 0 r_43 σ_44) σ_42) σ
/-! House.loses(LNandHouse$Inode;Z)Z -/
def wp_House_loses_b78 (cf : Cf) (tv : Nat → Int) (x1 : Int) (x2 : Int) (Q : Int → St → Prop) (y3 : Int) (σ : St) : Prop :=
  wp_House_addInode cf tv x1 x2 (fun σ_12 => RK σ_12 →
  Q y3 σ_12) σ
def wp_House_loses_b40 (cf : Cf) (tv : Nat → Int) (x1 : Int) (x2 : Int) (Q : Int → St → Prop) (K41 : Int → St → Prop) (σ : St) : Prop :=
  K41 0 σ
def wp_House_loses_b41 (cf : Cf) (tv : Nat → Int) (x1 : Int) (x2 : Int) (Q : Int → St → Prop) (t0 : Int) (σ : St) : Prop :=
  (t0 = 0 →
    wp_House_loses_b78 cf tv x1 x2 Q t0 σ) ∧
  (¬ t0 = 0 →
    wp_House_roomOf cf tv (gI σ 640 x1) (fun r_13 σ_14 => rI r_13 → RK σ_14 →
    ∀ σ_15, σ_15 = sI σ_14 71 0 (w32 ((gI σ 71 0) - r_13)) →
    ∀ σ_16, σ_16 = sI σ_15 72 0 (w32 ((gI σ_15 72 0) - 1)) →
    ∀ σ_17, σ_17 = sI σ_16 641 x1 0 →
    wp_House_loses_b78 cf tv x1 x2 Q t0 σ_17) σ)
def wp_House_loses_b36 (cf : Cf) (tv : Nat → Int) (x1 : Int) (x2 : Int) (Q : Int → St → Prop) (K41 : Int → St → Prop) (σ : St) : Prop :=
  K41 1 σ
abbrev rm_House_loses : Room := { frames := 7, cells := 0, slots := 0, locals := 168 }
def wp_House_loses (cf : Cf) (tv : Nat → Int) (x1 : Int) (x2 : Int) (Q : Int → St → Prop) (σ : St) : Prop :=
  ∀ σ_18, σ_18 = sI σ 642 x1 (w32 ((gI σ 642 x1) - 1)) →
  ((gI σ_18 641 x1) = 1 →
    wp_House_loses_b36 cf tv x1 x2 Q (wp_House_loses_b41 cf tv x1 x2 Q) σ_18) ∧
  (¬ (gI σ_18 641 x1) = 1 →
    (¬ (gI σ_18 642 x1) = 0 →
      wp_House_loses_b40 cf tv x1 x2 Q (wp_House_loses_b41 cf tv x1 x2 Q) σ_18) ∧
    ((gI σ_18 642 x1) = 0 →
      wp_House_isOpen cf tv (gI σ_18 640 x1) (fun r_19 σ_20 => rZ r_19 → RK σ_20 →
      (¬ r_19 = 0 →
        wp_House_loses_b40 cf tv x1 x2 Q (wp_House_loses_b41 cf tv x1 x2 Q) σ_20) ∧
      (r_19 = 0 →
        wp_House_loses_b36 cf tv x1 x2 Q (wp_House_loses_b41 cf tv x1 x2 Q) σ_20)) σ_18))
/-! House.unname(IJ)V -/
abbrev rm_House_unname : Room := { frames := 24, cells := 0, slots := 0, locals := 623 }
def wp_House_unname (cf : Cf) (tv : Nat → Int) (x1 : Int) (x2 : Int) (Q : St → Prop) (σ : St) : Prop :=
  ∀ σ_13, σ_13 = sI σ 644 0 (w32 ((gI σ 644 0) - 1)) →
  ∀ σ_14, σ_14 = sI σ_13 71 0 (w32 ((gI σ_13 71 0) - 240)) →
  wp_House_begin cf tv (fun σ_16 => RK σ_16 →
  wp_House_addEntry cf tv x1 x2 0 (gI σ_16 91 0) (fun σ_18 => RK σ_18 →
  wp_House_loses cf tv 1 0 (fun r_19 σ_20 => rZ r_19 → RK σ_20 →
  wp_House_addInode cf tv 0 1 (fun σ_22 => RK σ_22 →
  wp_House_hand cf tv (fun σ_24 => RK σ_24 →
  Q σ_24) σ_22) σ_20) σ_18) σ_16) σ_14
/-! House.unlink(IJ)I -/
abbrev rm_House_unlink : Room := { frames := 25, cells := 0, slots := 0, locals := 646 }
def wp_House_unlink (cf : Cf) (tv : Nat → Int) (x1 : Int) (x2 : Int) (Q : Int → St → Prop) (σ : St) : Prop :=
  (¬ (gI σ 69 0) = 0 →
    wp_House_named cf tv x1 x2 (fun r_5 σ_6 => rI r_5 → RK σ_6 →
    (0 ≤ r_5 →
      (¬ (gI σ_6 641 1) = 1 →
        wp_House_unname cf tv x1 x2 (fun σ_8 => RK σ_8 →
        Q (gI σ_8 642 1) σ_8) σ_6) ∧
      ((gI σ_6 641 1) = 1 →
        Q (-7) σ_6)) ∧
    (¬ 0 ≤ r_5 →
      Q r_5 σ_6)) σ) ∧
  ((gI σ 69 0) = 0 →
    Q (-2) σ)
/-! House.rmdir(IJ)I -/
abbrev rm_House_rmdir : Room := { frames := 25, cells := 0, slots := 0, locals := 646 }
def wp_House_rmdir (cf : Cf) (tv : Nat → Int) (x1 : Int) (x2 : Int) (Q : Int → St → Prop) (σ : St) : Prop :=
  (¬ (gI σ 69 0) = 0 →
    wp_House_named cf tv x1 x2 (fun r_5 σ_6 => rI r_5 → RK σ_6 →
    (0 ≤ r_5 →
      ((gI σ_6 641 1) = 1 →
        ((gI σ_6 644 1) ≤ 0 →
          wp_House_unname cf tv x1 x2 (fun σ_8 => RK σ_8 →
          Q (gI σ_8 640 1) σ_8) σ_6) ∧
        (¬ (gI σ_6 644 1) ≤ 0 →
          Q (-8) σ_6)) ∧
      (¬ (gI σ_6 641 1) = 1 →
        Q (-6) σ_6)) ∧
    (¬ 0 ≤ r_5 →
      Q r_5 σ_6)) σ) ∧
  ((gI σ 69 0) = 0 →
    Q (-2) σ)
/-! House.isWithin(II)Z -/
def wp_House_isWithin_b208 (cf : Cf) (tv : Nat → Int) (x1 : Int) (x2 : Int) (Q : Int → St → Prop) (K12 : Int → Int → St → Prop) (y3 : Int) (y4 : Int) (σ : St) : Prop :=
  ∀ y4_46, y4_46 = w32 (y4 + 1) →
  K12 y3 y4_46 σ
def wp_House_isWithin_b195 (cf : Cf) (tv : Nat → Int) (x1 : Int) (x2 : Int) (Q : Int → St → Prop) (K47 : Int → Int → Int → Int → St → Prop) (K208 : Int → Int → St → Prop) (y3 : Int) (y4 : Int) (y5 : Int) (y7 : Int) (σ : St) : Prop :=
  (¬ y7 = 0 →
    K47 y3 y4 y5 y7 σ) ∧
  (y7 = 0 →
    K208 y3 y4 σ)
def wp_House_isWithin_L47 (cf : Cf) (tv : Nat → Int) (x1 : Int) (x2 : Int) (Q : Int → St → Prop) (K12 : Int → Int → St → Prop) (K47 : Int → Int → Int → Int → St → Prop) (y3 : Int) (y4 : Int) (y5 : Int) (y7 : Int) (σ : St) : Prop :=
  wp_Index_seek cf tv 0 y5 y7 (fun r_47 σ_48 => rZ r_47 → RK σ_48 →
  (r_47 = 0 →
    wp_House_isWithin_b208 cf tv x1 x2 Q K12 y3 y4 σ_48) ∧
  (¬ r_47 = 0 →
    (¬ (gI σ_48 391 0) = y5 →
      wp_House_isWithin_b208 cf tv x1 x2 Q K12 y3 y4 σ_48) ∧
    ((gI σ_48 391 0) = y5 →
      ∀ y7_49, y7_49 = w64 ((gI σ_48 392 0) + 1) →
      wp_Store_read cf tv 0 (gI σ_48 393 0) (gI σ_48 394 0) (gI σ_48 395 0) 0 (fun σ_51 => RK σ_51 →
      wp_Row_get cf tv 0 4 (fun r_52 σ_53 => rI r_52 → RK σ_53 →
      (1024 ≤ y3 →
        wp_House_isWithin_b195 cf tv x1 x2 Q K47 (wp_House_isWithin_b208 cf tv x1 x2 Q K12) y3 y4 y5 y7_49 σ_53) ∧
      (¬ 1024 ≤ y3 →
        wp_House_read cf tv r_52 3 (fun r_54 σ_55 => rZ r_54 → RK σ_55 →
        (r_54 = 0 →
          wp_House_isWithin_b195 cf tv x1 x2 Q K47 (wp_House_isWithin_b208 cf tv x1 x2 Q K12) y3 y4 y5 y7_49 σ_55) ∧
        (¬ r_54 = 0 →
          (¬ (gI σ_55 641 3) = 1 →
            wp_House_isWithin_b195 cf tv x1 x2 Q K47 (wp_House_isWithin_b208 cf tv x1 x2 Q K12) y3 y4 y5 y7_49 σ_55) ∧
          ((gI σ_55 641 3) = 1 →
            ∀ y3_56, y3_56 = w32 (y3 + 1) →
            ((0 : Int) ≤ y3 ∧ y3 < 1024) ∧
            ∀ σ_57, σ_57 = sA σ_55 82 0 y3 r_52 →
            wp_House_isWithin_b195 cf tv x1 x2 Q K47 (wp_House_isWithin_b208 cf tv x1 x2 Q K12) y3_56 y4 y5 y7_49 σ_57))) σ_53)) σ_51) σ_48))) σ
def wp_House_isWithin_L12 (cf : Cf) (tv : Nat → Int) (x1 : Int) (x2 : Int) (Q : Int → St → Prop) (K12 : Int → Int → St → Prop) (y3 : Int) (y4 : Int) (σ : St) : Prop :=
  (y3 ≤ y4 →
    Q 0 σ) ∧
  (¬ y3 ≤ y4 →
    ((0 : Int) ≤ y4 ∧ y4 < 1024) ∧
    (¬ (gA σ 82 0 y4) = x1 →
      ((0 : Int) ≤ y4 ∧ y4 < 1024) ∧
      wp_House_keyOf cf tv (gA σ 82 0 y4) 2 (fun r_58 σ_59 => rJ r_58 → RK σ_59 →
      lQ4 (wp_House_isWithin_L47 cf tv x1 x2 Q K12) y3 y4 r_58 0 σ_59) σ) ∧
    ((gA σ 82 0 y4) = x1 →
      Q 1 σ))
abbrev rm_House_isWithin : Room := { frames := 7, cells := 0, slots := 0, locals := 203 }
def wp_House_isWithin (cf : Cf) (tv : Nat → Int) (x1 : Int) (x2 : Int) (Q : Int → St → Prop) (σ : St) : Prop :=
  ((0 : Int) ≤ (0 : Int) ∧ (0 : Int) < 1024) ∧
  ∀ σ_60, σ_60 = sA σ 82 0 0 x2 →
  lQ2 (wp_House_isWithin_L12 cf tv x1 x2 Q) 1 0 σ_60
/-! House.rename(IJIJ)I -/
def wp_House_rename_b345 (cf : Cf) (tv : Nat → Int) (x1 : Int) (x2 : Int) (x4 : Int) (x5 : Int) (Q : Int → St → Prop) (y9 : Int) (σ : St) : Prop :=
  wp_House_addInode cf tv 0 1 (fun σ_37 => RK σ_37 →
  wp_House_hand cf tv (fun σ_39 => RK σ_39 →
  Q (if y9 ≤ 0 then (0 : Int) else (1 : Int)) σ_39) σ_37) σ
def wp_House_rename_b198 (cf : Cf) (tv : Nat → Int) (x1 : Int) (x2 : Int) (x4 : Int) (x5 : Int) (Q : Int → St → Prop) (K216 : Int → Int → Int → Int → St → Prop) (y8 : Int) (y9 : Int) (y10 : Int) (y11 : Int) (y12 : Int) (σ : St) : Prop :=
  (y11 = 0 →
    K216 y8 y9 y10 y12 σ) ∧
  (¬ y11 = 0 →
    ((gI σ 644 1) ≤ 0 →
      K216 y8 y9 y10 y12 σ) ∧
    (¬ (gI σ 644 1) ≤ 0 →
      Q (-8) σ))
def wp_House_rename_b331 (cf : Cf) (tv : Nat → Int) (x1 : Int) (x2 : Int) (x4 : Int) (x5 : Int) (Q : Int → St → Prop) (y9 : Int) (y13 : Int) (σ : St) : Prop :=
  (¬ y13 = 0 →
    wp_House_rename_b345 cf tv x1 x2 x4 x5 Q y9 σ) ∧
  (y13 = 0 →
    wp_House_addInode cf tv 2 0 (fun σ_41 => RK σ_41 →
    wp_House_rename_b345 cf tv x1 x2 x4 x5 Q y9 σ_41) σ)
def wp_House_rename_b179 (cf : Cf) (tv : Nat → Int) (x1 : Int) (x2 : Int) (x4 : Int) (x5 : Int) (Q : Int → St → Prop) (K216 : Int → Int → Int → Int → St → Prop) (y8 : Int) (y9 : Int) (y10 : Int) (y11 : Int) (y12 : Int) (σ : St) : Prop :=
  (¬ y11 = 0 →
    wp_House_rename_b198 cf tv x1 x2 x4 x5 Q K216 y8 y9 y10 y11 y12 σ) ∧
  (y11 = 0 →
    (¬ (gI σ 641 1) = 1 →
      wp_House_rename_b198 cf tv x1 x2 x4 x5 Q K216 y8 y9 y10 y11 y12 σ) ∧
    ((gI σ 641 1) = 1 →
      Q (-7) σ))
def wp_House_rename_b216 (cf : Cf) (tv : Nat → Int) (x1 : Int) (x2 : Int) (x4 : Int) (x5 : Int) (Q : Int → St → Prop) (y8 : Int) (y9 : Int) (y10 : Int) (y12 : Int) (σ : St) : Prop :=
  wp_House_begin cf tv (fun σ_43 => RK σ_43 →
  wp_House_addEntry cf tv x1 x2 0 y8 (fun σ_45 => RK σ_45 →
  wp_House_addEntry cf tv x4 x5 y12 y10 (fun σ_47 => RK σ_47 →
  ∀ y13_48, y13_48 = (if x1 = x4 then (1 : Int) else (0 : Int)) →
  ∀ σ_49, σ_49 = sI σ_47 644 0 (w32 ((gI σ_47 644 0) - 1)) →
  (y9 ≤ 0 →
    (y13_48 = 0 →
      ∀ σ_50, σ_50 = sI σ_49 644 2 (w32 ((gI σ_49 644 2) + 1)) →
      wp_House_rename_b331 cf tv x1 x2 x4 x5 Q y9 y13_48 σ_50) ∧
    (¬ y13_48 = 0 →
      ∀ σ_51, σ_51 = sI σ_49 644 0 (w32 ((gI σ_49 644 0) + 1)) →
      wp_House_rename_b331 cf tv x1 x2 x4 x5 Q y9 y13_48 σ_51)) ∧
  (¬ y9 ≤ 0 →
    ∀ σ_52, σ_52 = sI σ_49 71 0 (w32 ((gI σ_49 71 0) - 240)) →
    wp_House_loses cf tv 1 0 (fun r_53 σ_54 => rZ r_53 → RK σ_54 →
    wp_House_rename_b331 cf tv x1 x2 x4 x5 Q y9 y13_48 σ_54) σ_52)) σ_45) σ_43) σ
def wp_House_rename_b135 (cf : Cf) (tv : Nat → Int) (x1 : Int) (x2 : Int) (x4 : Int) (x5 : Int) (Q : Int → St → Prop) (y8 : Int) (y9 : Int) (y10 : Int) (y11 : Int) (σ : St) : Prop :=
  ∀ y12_55, y12_55 = gI σ 640 1 →
  (y9 ≤ 0 →
    wp_House_rename_b216 cf tv x1 x2 x4 x5 Q y8 y9 y10 y12_55 σ) ∧
  (¬ y9 ≤ 0 →
    wp_House_read cf tv y9 1 (fun r_56 σ_57 => rZ r_56 → RK σ_57 →
    (y11 = 0 →
      wp_House_rename_b179 cf tv x1 x2 x4 x5 Q (wp_House_rename_b216 cf tv x1 x2 x4 x5 Q) y8 y9 y10 y11 y12_55 σ_57) ∧
    (¬ y11 = 0 →
      ((gI σ_57 641 1) = 1 →
        wp_House_rename_b179 cf tv x1 x2 x4 x5 Q (wp_House_rename_b216 cf tv x1 x2 x4 x5 Q) y8 y9 y10 y11 y12_55 σ_57) ∧
      (¬ (gI σ_57 641 1) = 1 →
        Q (-6) σ_57))) σ)
abbrev rm_House_rename : Room := { frames := 24, cells := 0, slots := 0, locals := 623 }
def wp_House_rename (cf : Cf) (tv : Nat → Int) (x1 : Int) (x2 : Int) (x4 : Int) (x5 : Int) (Q : Int → St → Prop) (σ : St) : Prop :=
  (¬ (gI σ 69 0) = 0 →
    wp_House_isName cf tv x5 (fun r_58 σ_59 => rZ r_58 → RK σ_59 →
    (¬ r_58 = 0 →
      wp_House_named cf tv x1 x2 (fun r_60 σ_61 => rI r_60 → RK σ_61 →
      (0 ≤ r_60 →
        ∀ y8_62, y8_62 = gI σ_61 91 0 →
        wp_House_directory cf tv x4 2 (fun r_63 σ_64 => rI r_63 → RK σ_64 →
        (0 ≤ r_63 →
          wp_House_entry cf tv x4 x5 (fun r_65 σ_66 => rI r_65 → RK σ_66 →
          ∀ y10_67, y10_67 = gI σ_66 91 0 →
          (¬ r_65 = (gI σ_66 640 1) →
            ∀ y11_68, y11_68 = (if (gI σ_66 641 1) = 1 then (1 : Int) else (0 : Int)) →
            (y11_68 = 0 →
              wp_House_rename_b135 cf tv x1 x2 x4 x5 Q y8_62 r_65 y10_67 y11_68 σ_66) ∧
            (¬ y11_68 = 0 →
              wp_House_isWithin cf tv x4 (gI σ_66 640 1) (fun r_69 σ_70 => rZ r_69 → RK σ_70 →
              (r_69 = 0 →
                wp_House_rename_b135 cf tv x1 x2 x4 x5 Q y8_62 r_65 y10_67 y11_68 σ_70) ∧
              (¬ r_69 = 0 →
                Q (-9) σ_70)) σ_66)) ∧
          (r_65 = (gI σ_66 640 1) →
            Q 0 σ_66)) σ_64) ∧
        (¬ 0 ≤ r_63 →
          Q r_63 σ_64)) σ_61) ∧
      (¬ 0 ≤ r_60 →
        Q r_60 σ_61)) σ_59) ∧
    (r_58 = 0 →
      Q (-3) σ_59)) σ) ∧
  ((gI σ 69 0) = 0 →
    Q (-2) σ)
/-! House.swap(IJIJ)I -/
def wp_House_swap_b165 (cf : Cf) (tv : Nat → Int) (x1 : Int) (x2 : Int) (x4 : Int) (x5 : Int) (Q : Int → St → Prop) (y8 : Int) (y9 : Int) (y10 : Int) (y11 : Int) (σ : St) : Prop :=
  wp_House_begin cf tv (fun σ_37 => RK σ_37 →
  wp_House_addEntry cf tv x1 x2 y9 y8 (fun σ_39 => RK σ_39 →
  wp_Row_begin cf tv 6 2 48 (fun σ_41 => RK σ_41 →
  wp_Row_put cf tv 6 0 x4 (fun σ_43 => RK σ_43 →
  wp_Row_put cf tv 6 4 y11 (fun σ_45 => RK σ_45 →
  wp_Row_putLongAt cf tv 6 8 x5 (fun σ_47 => RK σ_47 →
  wp_Row_put cf tv 6 16 y10 (fun σ_49 => RK σ_49 →
  wp_Row_close cf tv 6 0 1 (fun σ_51 => RK σ_51 →
  wp_House_hand cf tv (fun σ_53 => RK σ_53 →
  Q 1 σ_53) σ_51) σ_49) σ_47) σ_45) σ_43) σ_41) σ_39) σ_37) σ
def wp_House_swap_b130 (cf : Cf) (tv : Nat → Int) (x1 : Int) (x2 : Int) (x4 : Int) (x5 : Int) (Q : Int → St → Prop) (y8 : Int) (y9 : Int) (y10 : Int) (y11 : Int) (σ : St) : Prop :=
  wp_House_read cf tv y9 1 (fun r_54 σ_55 => rZ r_54 → RK σ_55 →
  (¬ (gI σ_55 641 1) = 1 →
    wp_House_swap_b165 cf tv x1 x2 x4 x5 Q y8 y9 y10 y11 σ_55) ∧
  ((gI σ_55 641 1) = 1 →
    wp_House_isWithin cf tv x1 y9 (fun r_56 σ_57 => rZ r_56 → RK σ_57 →
    (r_56 = 0 →
      wp_House_swap_b165 cf tv x1 x2 x4 x5 Q y8 y9 y10 y11 σ_57) ∧
    (¬ r_56 = 0 →
      Q (-9) σ_57)) σ_55)) σ
abbrev rm_House_swap : Room := { frames := 24, cells := 0, slots := 0, locals := 623 }
def wp_House_swap (cf : Cf) (tv : Nat → Int) (x1 : Int) (x2 : Int) (x4 : Int) (x5 : Int) (Q : Int → St → Prop) (σ : St) : Prop :=
  (¬ (gI σ 69 0) = 0 →
    wp_House_isName cf tv x5 (fun r_58 σ_59 => rZ r_58 → RK σ_59 →
    (¬ r_58 = 0 →
      wp_House_named cf tv x1 x2 (fun r_60 σ_61 => rI r_60 → RK σ_61 →
      (0 ≤ r_60 →
        ∀ y8_62, y8_62 = gI σ_61 91 0 →
        wp_House_directory cf tv x4 2 (fun r_63 σ_64 => rI r_63 → RK σ_64 →
        (0 ≤ r_63 →
          wp_House_entry cf tv x4 x5 (fun r_65 σ_66 => rI r_65 → RK σ_66 →
          ∀ y10_67, y10_67 = gI σ_66 91 0 →
          (¬ r_65 = 0 →
            ∀ y11_68, y11_68 = gI σ_66 640 1 →
            (¬ r_65 = y11_68 →
              (¬ (gI σ_66 641 1) = 1 →
                wp_House_swap_b130 cf tv x1 x2 x4 x5 Q y8_62 r_65 y10_67 y11_68 σ_66) ∧
              ((gI σ_66 641 1) = 1 →
                wp_House_isWithin cf tv x4 y11_68 (fun r_69 σ_70 => rZ r_69 → RK σ_70 →
                (r_69 = 0 →
                  wp_House_swap_b130 cf tv x1 x2 x4 x5 Q y8_62 r_65 y10_67 y11_68 σ_70) ∧
                (¬ r_69 = 0 →
                  Q (-9) σ_70)) σ_66)) ∧
            (r_65 = y11_68 →
              Q 0 σ_66)) ∧
          (r_65 = 0 →
            Q (-4) σ_66)) σ_64) ∧
        (¬ 0 ≤ r_63 →
          Q r_63 σ_64)) σ_61) ∧
      (¬ 0 ≤ r_60 →
        Q r_60 σ_61)) σ_59) ∧
    (r_58 = 0 →
      Q (-3) σ_59)) σ) ∧
  ((gI σ 69 0) = 0 →
    Q (-2) σ)
/-! House.look(IJ)I -/
abbrev rm_House_look : Room := { frames := 9, cells := 0, slots := 0, locals := 249 }
def wp_House_look (cf : Cf) (tv : Nat → Int) (x1 : Int) (x2 : Int) (Q : Int → St → Prop) (σ : St) : Prop :=
  (¬ (gI σ 69 0) = 0 →
    wp_House_named cf tv x1 x2 (fun r_3 σ_4 => rI r_3 → RK σ_4 →
    (0 ≤ r_3 →
      Q (gI σ_4 640 1) σ_4) ∧
    (¬ 0 ≤ r_3 →
      Q r_3 σ_4)) σ) ∧
  ((gI σ 69 0) = 0 →
    Q (-2) σ)
/-! House.gather(I)I -/
def wp_House_gather_b137 (cf : Cf) (tv : Nat → Int) (x1 : Int) (Q : Int → St → Prop) (K30 : Int → Int → St → Prop) (y3 : Int) (σ : St) : Prop :=
  wp_Index_next cf tv 0 (fun r_58 σ_59 => rZ r_58 → RK σ_59 →
  K30 y3 r_58 σ_59) σ
def wp_House_gather_b52 (cf : Cf) (tv : Nat → Int) (x1 : Int) (Q : Int → St → Prop) (K30 : Int → Int → St → Prop) (y3 : Int) (σ : St) : Prop :=
  ((jrl (gI σ 391 0) 4) = 2 →
    wp_Store_read cf tv 0 (gI σ 393 0) (gI σ 394 0) (gI σ 395 0) 0 (fun σ_61 => RK σ_61 →
    wp_Row_getLongAt cf tv 0 8 (fun r_62 σ_63 => rJ r_62 → RK σ_63 →
    wp_Long_reverseBytes cf tv r_62 (fun r_64 σ_65 => rJ r_64 → RK σ_65 →
    ((0 : Int) ≤ y3 ∧ y3 < 768) ∧
    ∀ σ_66, σ_66 = sA σ_65 83 0 y3 r_64 →
    ∀ y3_67, y3_67 = w32 (y3 + 1) →
    wp_Row_get cf tv 0 4 (fun r_68 σ_69 => rI r_68 → RK σ_69 →
    ((0 : Int) ≤ y3 ∧ y3 < 768) ∧
    ∀ σ_70, σ_70 = sA σ_69 84 0 y3 r_68 →
    wp_House_gather_b137 cf tv x1 Q K30 y3_67 σ_70) σ_66) σ_63) σ_61) σ) ∧
  (¬ (jrl (gI σ 391 0) 4) = 2 →
    wp_House_gather_b137 cf tv x1 Q K30 y3 σ)
def wp_House_gather_L30 (cf : Cf) (tv : Nat → Int) (x1 : Int) (Q : Int → St → Prop) (K30 : Int → Int → St → Prop) (y3 : Int) (y4 : Int) (σ : St) : Prop :=
  (y4 = 0 →
    Q y3 σ) ∧
  (¬ y4 = 0 →
    (x1 = 0 →
      wp_House_gather_b52 cf tv x1 Q K30 y3 σ) ∧
    (¬ x1 = 0 →
      wp_House_keyOf cf tv x1 2 (fun r_71 σ_72 => rJ r_71 → RK σ_72 →
      (¬ (gI σ 391 0) = r_71 →
        Q y3 σ_72) ∧
      ((gI σ 391 0) = r_71 →
        wp_House_gather_b52 cf tv x1 Q K30 y3 σ_72)) σ))
def wp_House_gather_b24 (cf : Cf) (tv : Nat → Int) (x1 : Int) (Q : Int → St → Prop) (y3 : Int) (t0 : Int) (σ : St) : Prop :=
  wp_Index_seek cf tv 0 t0 0 (fun r_73 σ_74 => rZ r_73 → RK σ_74 →
  lQ2 (wp_House_gather_L30 cf tv x1 Q) y3 r_73 σ_74) σ
abbrev rm_House_gather : Room := { frames := 6, cells := 0, slots := 0, locals := 180 }
def wp_House_gather (cf : Cf) (tv : Nat → Int) (x1 : Int) (Q : Int → St → Prop) (σ : St) : Prop :=
  (¬ x1 = 0 →
    wp_House_keyOf cf tv x1 2 (fun r_75 σ_76 => rJ r_75 → RK σ_76 →
    wp_House_gather_b24 cf tv x1 Q 0 r_75 σ_76) σ) ∧
  (x1 = 0 →
    wp_House_gather_b24 cf tv x1 Q 0 0 σ)
/-! House.list(II)J -/
def wp_House_list_L57 (cf : Cf) (tv : Nat → Int) (x1 : Int) (x2 : Int) (Q : Int → St → Prop) (K45 : Int → Int → St → Prop) (K57 : Int → Int → Int → Int → St → Prop) (y3 : Int) (y4 : Int) (y5 : Int) (y6 : Int) (σ : St) : Prop :=
  (y3 ≤ y6 →
    (¬ y5 = x2 →
      ∀ y4_34, y4_34 = w32 (y4 + 1) →
      K45 y3 y4_34 σ) ∧
    (y5 = x2 →
      ((0 : Int) ≤ y4 ∧ y4 < 768) ∧
      wp_Long_reverseBytes cf tv (gA σ 83 0 y4) (fun r_35 σ_36 => rJ r_35 → RK σ_36 →
      Q r_35 σ_36) σ)) ∧
  (¬ y3 ≤ y6 →
    ((0 : Int) ≤ y6 ∧ y6 < 768) ∧
    ((0 : Int) ≤ y4 ∧ y4 < 768) ∧
    wp_Long_compareUnsigned cf tv (gA σ 83 0 y6) (gA σ 83 0 y4) (fun r_37 σ_38 => rI r_37 → RK σ_38 →
    ∀ y5_39, y5_39 = w32 (y5 + (if 0 ≤ r_37 then (0 : Int) else (1 : Int))) →
    ∀ y6_40, y6_40 = w32 (y6 + 1) →
    K57 y3 y4 y5_39 y6_40 σ_38) σ)
def wp_House_list_L45 (cf : Cf) (tv : Nat → Int) (x1 : Int) (x2 : Int) (Q : Int → St → Prop) (K45 : Int → Int → St → Prop) (y3 : Int) (y4 : Int) (σ : St) : Prop :=
  (y3 ≤ y4 →
    Q 0 σ) ∧
  (¬ y3 ≤ y4 →
    lQ4 (wp_House_list_L57 cf tv x1 x2 Q K45) y3 y4 0 0 σ)
abbrev rm_House_list : Room := { frames := 8, cells := 0, slots := 0, locals := 225 }
def wp_House_list (cf : Cf) (tv : Nat → Int) (x1 : Int) (x2 : Int) (Q : Int → St → Prop) (σ : St) : Prop :=
  ((gI σ 69 0) = 0 →
    Q 0 σ) ∧
  (¬ (gI σ 69 0) = 0 →
    (x2 < 0 →
      Q 0 σ) ∧
    (¬ x2 < 0 →
      wp_House_directory cf tv x1 0 (fun r_41 σ_42 => rI r_41 → RK σ_42 →
      (r_41 < 0 →
        Q 0 σ_42) ∧
      (¬ r_41 < 0 →
        (x2 < (gI σ_42 644 0) →
          wp_House_gather cf tv x1 (fun r_43 σ_44 => rI r_43 → RK σ_44 →
          lQ2 (wp_House_list_L45 cf tv x1 x2 Q) r_43 0 σ_44) σ_42) ∧
        (¬ x2 < (gI σ_42 644 0) →
          Q 0 σ_42))) σ))
/-! House.following(IJ)J -/
def wp_House_following_b136 (cf : Cf) (tv : Nat → Int) (x1 : Int) (x2 : Int) (Q : Int → St → Prop) (K140 : Int → Int → Int → St → Prop) (y5 : Int) (y7 : Int) (y12 : Int) (σ : St) : Prop :=
  K140 y5 y7 y12 σ
def wp_House_following_b140 (cf : Cf) (tv : Nat → Int) (x1 : Int) (x2 : Int) (Q : Int → St → Prop) (K35 : Int → Int → Int → Int → St → Prop) (y5 : Int) (y7 : Int) (y9 : Int) (σ : St) : Prop :=
  wp_Index_next cf tv 0 (fun r_22 σ_23 => rZ r_22 → RK σ_23 →
  K35 y5 y7 y9 r_22 σ_23) σ
def wp_House_following_b150 (cf : Cf) (tv : Nat → Int) (x1 : Int) (x2 : Int) (Q : Int → St → Prop) (y9 : Int) (σ : St) : Prop :=
  wp_Long_reverseBytes cf tv y9 (fun r_24 σ_25 => rJ r_24 → RK σ_25 →
  Q r_24 σ_25) σ
def wp_House_following_L35 (cf : Cf) (tv : Nat → Int) (x1 : Int) (x2 : Int) (Q : Int → St → Prop) (K35 : Int → Int → Int → Int → St → Prop) (y5 : Int) (y7 : Int) (y9 : Int) (y11 : Int) (σ : St) : Prop :=
  (y11 = 0 →
    wp_House_following_b150 cf tv x1 x2 Q y9 σ) ∧
  (¬ y11 = 0 →
    (¬ (gI σ 391 0) = y5 →
      wp_House_following_b150 cf tv x1 x2 Q y9 σ) ∧
    ((gI σ 391 0) = y5 →
      wp_Store_read cf tv 0 (gI σ 393 0) (gI σ 394 0) (gI σ 395 0) 0 (fun σ_27 => RK σ_27 →
      wp_Row_getLongAt cf tv 0 8 (fun r_28 σ_29 => rJ r_28 → RK σ_29 →
      wp_Long_reverseBytes cf tv r_28 (fun r_30 σ_31 => rJ r_30 → RK σ_31 →
      wp_Long_compareUnsigned cf tv r_30 y7 (fun r_32 σ_33 => rI r_32 → RK σ_33 →
      ∀ y14_34, y14_34 = (if r_32 ≤ 0 then (0 : Int) else (1 : Int)) →
      (y14_34 = 0 →
        wp_House_following_b140 cf tv x1 x2 Q K35 y5 y7 y9 σ_33) ∧
      (¬ y14_34 = 0 →
        (y9 = 0 →
          wp_House_following_b136 cf tv x1 x2 Q (wp_House_following_b140 cf tv x1 x2 Q K35) y5 y7 r_30 σ_33) ∧
        (¬ y9 = 0 →
          wp_Long_compareUnsigned cf tv r_30 y9 (fun r_35 σ_36 => rI r_35 → RK σ_36 →
          (0 ≤ r_35 →
            wp_House_following_b140 cf tv x1 x2 Q K35 y5 y7 y9 σ_36) ∧
          (¬ 0 ≤ r_35 →
            wp_House_following_b136 cf tv x1 x2 Q (wp_House_following_b140 cf tv x1 x2 Q K35) y5 y7 r_30 σ_36)) σ_33))) σ_31) σ_29) σ_27) σ))
abbrev rm_House_following : Room := { frames := 6, cells := 0, slots := 0, locals := 180 }
def wp_House_following (cf : Cf) (tv : Nat → Int) (x1 : Int) (x2 : Int) (Q : Int → St → Prop) (σ : St) : Prop :=
  wp_House_keyOf cf tv x1 2 (fun r_37 σ_38 => rJ r_37 → RK σ_38 →
  wp_Long_reverseBytes cf tv x2 (fun r_39 σ_40 => rJ r_39 → RK σ_40 →
  wp_Index_seek cf tv 0 r_37 0 (fun r_41 σ_42 => rZ r_41 → RK σ_42 →
  lQ4 (wp_House_following_L35 cf tv x1 x2 Q) r_37 r_39 0 r_41 σ_42) σ_40) σ_38) σ
/-! House.after(IJ)J -/
def wp_House_after_b32 (cf : Cf) (tv : Nat → Int) (x1 : Int) (x2 : Int) (Q : Int → St → Prop) (σ : St) : Prop :=
  Q 0 σ
def wp_House_after_b36 (cf : Cf) (tv : Nat → Int) (x1 : Int) (x2 : Int) (Q : Int → St → Prop) (σ : St) : Prop :=
  wp_House_following cf tv x1 x2 (fun r_7 σ_8 => rJ r_7 → RK σ_8 →
  Q r_7 σ_8) σ
abbrev rm_House_after : Room := { frames := 8, cells := 0, slots := 0, locals := 225 }
def wp_House_after (cf : Cf) (tv : Nat → Int) (x1 : Int) (x2 : Int) (Q : Int → St → Prop) (σ : St) : Prop :=
  ((gI σ 69 0) = 0 →
    wp_House_after_b32 cf tv x1 x2 Q σ) ∧
  (¬ (gI σ 69 0) = 0 →
    wp_House_directory cf tv x1 0 (fun r_9 σ_10 => rI r_9 → RK σ_10 →
    (r_9 < 0 →
      wp_House_after_b32 cf tv x1 x2 Q σ_10) ∧
    (¬ r_9 < 0 →
      (x2 = 0 →
        wp_House_after_b36 cf tv x1 x2 Q σ_10) ∧
      (¬ x2 = 0 →
        wp_House_isName cf tv x2 (fun r_11 σ_12 => rZ r_11 → RK σ_12 →
        (¬ r_11 = 0 →
          wp_House_after_b36 cf tv x1 x2 Q σ_12) ∧
        (r_11 = 0 →
          wp_House_after_b32 cf tv x1 x2 Q σ_12)) σ_10))) σ)
/-! House.feed(JI)I -/
def wp_House_feed_L75 (cf : Cf) (tv : Nat → Int) (x1 : Int) (x3 : Int) (Q : Int → St → Prop) (K75 : Int → St → Prop) (y4 : Int) (σ : St) : Prop :=
  (x3 ≤ y4 →
    Q (gI σ 88 0) σ) ∧
  (¬ x3 ≤ y4 →
    ∀ σ_13, σ_13 = sI σ 88 0 (w32 ((gI σ 88 0) + 1)) →
    ((0 : Int) ≤ gI σ 88 0 ∧ gI σ 88 0 < 200) ∧
    ∀ σ_14, σ_14 = sA σ_13 87 0 (gI σ 88 0) (b8 (w32 (lushr x1 (w32 (8 * y4))))) →
    ∀ y4_15, y4_15 = w32 (y4 + 1) →
    K75 y4_15 σ_14)
def wp_House_feed_L26 (cf : Cf) (tv : Nat → Int) (x1 : Int) (x3 : Int) (Q : Int → St → Prop) (K26 : Int → St → Prop) (y4 : Int) (σ : St) : Prop :=
  (x3 ≤ y4 →
    ((w32 ((gI σ 88 0) + x3)) ≤ 200 →
      lQ1 (wp_House_feed_L75 cf tv x1 x3 Q) 0 σ) ∧
    (¬ (w32 ((gI σ 88 0) + x3)) ≤ 200 →
      Q (-10) σ)) ∧
  (¬ x3 ≤ y4 →
    (¬ (land (lushr x1 (w32 (8 * y4))) 255) = 0 →
      ∀ y4_16, y4_16 = w32 (y4 + 1) →
      K26 y4_16 σ) ∧
    ((land (lushr x1 (w32 (8 * y4))) 255) = 0 →
      Q (-3) σ))
abbrev rm_House_feed : Room := { frames := 1, cells := 0, slots := 0, locals := 22 }
def wp_House_feed (cf : Cf) (tv : Nat → Int) (x1 : Int) (x3 : Int) (Q : Int → St → Prop) (σ : St) : Prop :=
  (¬ (gI σ 69 0) = 0 →
    wp_House_isIn cf tv x3 1 8 (fun r_17 σ_18 => rZ r_17 → RK σ_18 →
    (¬ r_17 = 0 →
      lQ1 (wp_House_feed_L26 cf tv x1 x3 Q) 0 σ_18) ∧
    (r_17 = 0 →
      Q (-3) σ_18)) σ) ∧
  ((gI σ 69 0) = 0 →
    Q (-2) σ)
/-! House.next(IZ)I -/
def wp_House_next_L2 (cf : Cf) (tv : Nat → Int) (x1 : Int) (x2 : Int) (Q : Int → St → Prop) (K2 : Int → St → Prop) (y3 : Int) (σ : St) : Prop :=
  (1024 ≤ y3 →
    Q y3 σ) ∧
  (¬ 1024 ≤ y3 →
    ((0 : Int) ≤ y3 ∧ y3 < 1024) ∧
    ((((if (gA σ 89 0 y3) = 47 then (1 : Int) else (0 : Int))) : Int) = x2 →
      Q y3 σ) ∧
    (¬ (((if (gA σ 89 0 y3) = 47 then (1 : Int) else (0 : Int))) : Int) = x2 →
      ∀ y3_2, y3_2 = w32 (y3 + 1) →
      K2 y3_2 σ))
abbrev rm_House_next : Room := { frames := 0, cells := 0, slots := 0, locals := 0 }
def wp_House_next (cf : Cf) (tv : Nat → Int) (x1 : Int) (x2 : Int) (Q : Int → St → Prop) (σ : St) : Prop :=
  lQ1 (wp_House_next_L2 cf tv x1 x2 Q) x1 σ
/-! House.areDots(III)Z -/
def wp_House_areDots_L15 (cf : Cf) (tv : Nat → Int) (x1 : Int) (x2 : Int) (x3 : Int) (Q : Int → St → Prop) (K15 : Int → Int → St → Prop) (y4 : Int) (y5 : Int) (σ : St) : Prop :=
  (x2 ≤ y5 →
    Q y4 σ) ∧
  (¬ x2 ≤ y5 →
    (y4 = 0 →
      Q y4 σ) ∧
    (¬ y4 = 0 →
      ((0 : Int) ≤ w32 (x1 + y5) ∧ w32 (x1 + y5) < 1024) ∧
      ∀ y4_7, y4_7 = (if (gA σ 89 0 (w32 (x1 + y5))) = 46 then (1 : Int) else (0 : Int)) →
      ∀ y5_8, y5_8 = w32 (y5 + 1) →
      K15 y4_7 y5_8 σ))
abbrev rm_House_areDots : Room := { frames := 0, cells := 0, slots := 0, locals := 0 }
def wp_House_areDots (cf : Cf) (tv : Nat → Int) (x1 : Int) (x2 : Int) (x3 : Int) (Q : Int → St → Prop) (σ : St) : Prop :=
  ∀ y4_9, y4_9 = (if x2 = x3 then (1 : Int) else (0 : Int)) →
  lQ2 (wp_House_areDots_L15 cf tv x1 x2 x3 Q) y4_9 0 σ
/-! House.above(I)I -/
def wp_House_above_b109 (cf : Cf) (tv : Nat → Int) (x1 : Int) (Q : Int → St → Prop) (K20 : Int → St → Prop) (σ : St) : Prop :=
  wp_Index_next cf tv 0 (fun r_13 σ_14 => rZ r_13 → RK σ_14 →
  K20 r_13 σ_14) σ
def wp_House_above_L20 (cf : Cf) (tv : Nat → Int) (x1 : Int) (Q : Int → St → Prop) (K20 : Int → St → Prop) (y3 : Int) (σ : St) : Prop :=
  (y3 = 0 →
    Q 1 σ) ∧
  (¬ y3 = 0 →
    ((jrl (gI σ 391 0) 4) = 2 →
      wp_Store_read cf tv 0 (gI σ 393 0) (gI σ 394 0) (gI σ 395 0) 0 (fun σ_16 => RK σ_16 →
      wp_Row_get cf tv 0 4 (fun r_17 σ_18 => rI r_17 → RK σ_18 →
      (¬ r_17 = x1 →
        wp_House_above_b109 cf tv x1 Q K20 σ_18) ∧
      (r_17 = x1 →
        wp_Row_getLongAt cf tv 0 8 (fun r_19 σ_20 => rJ r_19 → RK σ_20 →
        ∀ σ_21, σ_21 = sI σ_20 93 0 r_19 →
        Q (w32 (jdl (gI σ_21 391 0) 4)) σ_21) σ_18)) σ_16) σ) ∧
    (¬ (jrl (gI σ 391 0) 4) = 2 →
      wp_House_above_b109 cf tv x1 Q K20 σ))
abbrev rm_House_above : Room := { frames := 6, cells := 0, slots := 0, locals := 180 }
def wp_House_above (cf : Cf) (tv : Nat → Int) (x1 : Int) (Q : Int → St → Prop) (σ : St) : Prop :=
  ∀ σ_22, σ_22 = sI σ 93 0 0 →
  wp_Index_seek cf tv 0 0 0 (fun r_23 σ_24 => rZ r_23 → RK σ_24 →
  lQ1 (wp_House_above_L20 cf tv x1 Q) r_23 σ_24) σ_22
/-! House.piece(II)I -/
abbrev rm_House_piece : Room := { frames := 6, cells := 0, slots := 0, locals := 180 }
def wp_House_piece (cf : Cf) (tv : Nat → Int) (x1 : Int) (x2 : Int) (Q : Int → St → Prop) (σ : St) : Prop :=
  wp_Arrays_fill cf tv 77 0 0 (fun σ_14 => RK σ_14 →
  wp_House_keyOf cf tv x1 1 (fun r_15 σ_16 => rJ r_15 → RK σ_16 →
  wp_Index_find cf tv 0 r_15 x2 (fun r_17 σ_18 => rZ r_17 → RK σ_18 →
  (¬ r_17 = 0 →
    wp_Store_read cf tv 0 (gI σ_18 393 0) (gI σ_18 394 0) (gI σ_18 395 0) 7 (fun σ_20 => RK σ_20 →
    wp_Row_get cf tv 7 4 (fun r_21 σ_22 => rI r_21 → RK σ_22 →
    ∀ y4_23, y4_23 = iushr r_21 16 →
    (((0 : Int) ≤ (32 : Int) ∧ (0 : Int) ≤ (0 : Int) ∧ (0 : Int) ≤ y4_23) ∧ (32 : Int) + y4_23 ≤ (rowL 7) ∧ (0 : Int) + y4_23 ≤ 64) ∧
    ∀ σ_24, σ_24 = sAr σ_22 77 0 (cpy (gA σ_22 512 7) (gA σ_22 77 0) 32 0 y4_23) →
    Q y4_23 σ_24) σ_20) σ_18) ∧
  (r_17 = 0 →
    Q 0 σ_18)) σ_16) σ_14) σ
/-! House.walk(IZ)I -/
def wp_House_walk_b348 (cf : Cf) (tv : Nat → Int) (x1 : Int) (x2 : Int) (Q : Int → St → Prop) (K355 : Int → Int → Int → St → Prop) (y3 : Int) (y5 : Int) (y6 : Int) (σ : St) : Prop :=
  K355 y3 y5 y6 σ
def wp_House_walk_b291 (cf : Cf) (tv : Nat → Int) (x1 : Int) (x2 : Int) (Q : Int → St → Prop) (K355 : Int → Int → Int → St → Prop) (y5 : Int) (y6 : Int) (y7 : Int) (y11 : Int) (σ : St) : Prop :=
  ∀ y6_137, y6_137 = w32 (y6 + 1) →
  (y6_137 ≤ 8 →
    wp_House_piece cf tv y11 0 (fun r_138 σ_139 => rI r_138 → RK σ_139 →
    ∀ y3_140, y3_140 = w32 (y7 - r_138) →
    (((0 : Int) ≤ (0 : Int) ∧ (0 : Int) ≤ y3_140 ∧ (0 : Int) ≤ r_138) ∧ (0 : Int) + r_138 ≤ 64 ∧ y3_140 + r_138 ≤ 1024) ∧
    ∀ σ_141, σ_141 = sAr σ_139 89 0 (cpy (gA σ_139 77 0) (gA σ_139 89 0) 0 y3_140 r_138) →
    ((0 : Int) ≤ y3_140 ∧ y3_140 < 1024) ∧
    (¬ (gA σ_141 89 0 y3_140) = 47 →
      wp_House_walk_b348 cf tv x1 x2 Q K355 y3_140 y5 y6_137 σ_141) ∧
    ((gA σ_141 89 0 y3_140) = 47 →
      wp_House_walk_b348 cf tv x1 x2 Q K355 y3_140 1 y6_137 σ_141)) σ) ∧
  (¬ y6_137 ≤ 8 →
    Q (-9) σ)
def wp_House_walk_b351 (cf : Cf) (tv : Nat → Int) (x1 : Int) (x2 : Int) (Q : Int → St → Prop) (K355 : Int → Int → Int → St → Prop) (y3 : Int) (y6 : Int) (y11 : Int) (σ : St) : Prop :=
  K355 y3 y11 y6 σ
def wp_House_walk_b171 (cf : Cf) (tv : Nat → Int) (x1 : Int) (x2 : Int) (Q : Int → St → Prop) (K355 : Int → Int → Int → St → Prop) (y6 : Int) (y7 : Int) (t0 : Int) (σ : St) : Prop :=
  K355 y7 t0 y6 σ
def wp_House_walk_b355 (cf : Cf) (tv : Nat → Int) (x1 : Int) (x2 : Int) (Q : Int → St → Prop) (K95 : Int → Int → Int → St → Prop) (y3 : Int) (y5 : Int) (y6 : Int) (σ : St) : Prop :=
  wp_House_next cf tv y3 0 (fun r_142 σ_143 => rI r_142 → RK σ_143 →
  K95 r_142 y5 y6 σ_143) σ
def wp_House_walk_L198 (cf : Cf) (tv : Nat → Int) (x1 : Int) (x2 : Int) (Q : Int → St → Prop) (K355 : Int → Int → Int → St → Prop) (K198 : Int → Int → Int → Int → Int → Int → St → Prop) (y3 : Int) (y5 : Int) (y6 : Int) (y7 : Int) (y9 : Int) (y11 : Int) (σ : St) : Prop :=
  (y11 < 0 →
    wp_House_entry cf tv y5 y9 (fun r_144 σ_145 => rI r_144 → RK σ_145 →
    (¬ r_144 = 0 →
      wp_House_read cf tv r_144 1 (fun r_146 σ_147 => rZ r_146 → RK σ_147 →
      (¬ (gI σ_147 641 1) = 3 →
        wp_House_walk_b351 cf tv x1 x2 Q K355 y7 y6 r_144 σ_147) ∧
      ((gI σ_147 641 1) = 3 →
        (¬ x2 = 0 →
          wp_House_walk_b291 cf tv x1 x2 Q K355 y5 y6 y7 r_144 σ_147) ∧
        (x2 = 0 →
          wp_House_next cf tv y7 0 (fun r_148 σ_149 => rI r_148 → RK σ_149 →
          (1024 ≤ r_148 →
            wp_House_walk_b351 cf tv x1 x2 Q K355 y7 y6 r_144 σ_149) ∧
          (¬ 1024 ≤ r_148 →
            wp_House_walk_b291 cf tv x1 x2 Q K355 y5 y6 y7 r_144 σ_149)) σ_147))) σ_145) ∧
    (r_144 = 0 →
      Q (-4) σ_145)) σ) ∧
  (¬ y11 < 0 →
    ((0 : Int) ≤ w32 (y3 + y11) ∧ w32 (y3 + y11) < 1024) ∧
    ∀ y9_150, y9_150 = lor (lshl y9 8) (land (gA σ 89 0 (w32 (y3 + y11))) 255) →
    ∀ y11_151, y11_151 = w32 (y11 + (-1)) →
    K198 y3 y5 y6 y7 y9_150 y11_151 σ)
def wp_House_walk_b154 (cf : Cf) (tv : Nat → Int) (x1 : Int) (x2 : Int) (Q : Int → St → Prop) (K355 : Int → Int → Int → St → Prop) (y5 : Int) (y6 : Int) (y7 : Int) (y8 : Int) (σ : St) : Prop :=
  (¬ y8 = 1 →
    wp_House_above cf tv y5 (fun r_152 σ_153 => rI r_152 → RK σ_153 →
    wp_House_walk_b171 cf tv x1 x2 Q K355 y6 y7 r_152 σ_153) σ) ∧
  (y8 = 1 →
    wp_House_walk_b171 cf tv x1 x2 Q K355 y6 y7 y5 σ)
def wp_House_walk_L95 (cf : Cf) (tv : Nat → Int) (x1 : Int) (x2 : Int) (Q : Int → St → Prop) (K95 : Int → Int → Int → St → Prop) (y3 : Int) (y5 : Int) (y6 : Int) (σ : St) : Prop :=
  (1024 ≤ y3 →
    Q y5 σ) ∧
  (¬ 1024 ≤ y3 →
    wp_House_next cf tv y3 1 (fun r_154 σ_155 => rI r_154 → RK σ_155 →
    wp_House_directory cf tv y5 0 (fun r_156 σ_157 => rI r_156 → RK σ_157 →
    (0 ≤ r_156 →
      ∀ y8_158, y8_158 = w32 (r_154 - y3) →
      wp_House_areDots cf tv y3 y8_158 1 (fun r_159 σ_160 => rZ r_159 → RK σ_160 →
      (¬ r_159 = 0 →
        wp_House_walk_b154 cf tv x1 x2 Q (wp_House_walk_b355 cf tv x1 x2 Q K95) y5 y6 r_154 y8_158 σ_160) ∧
      (r_159 = 0 →
        wp_House_areDots cf tv y3 y8_158 2 (fun r_161 σ_162 => rZ r_161 → RK σ_162 →
        (r_161 = 0 →
          (y8_158 ≤ 8 →
            ∀ y11_163, y11_163 = w32 (y8_158 - 1) →
            lQ6 (wp_House_walk_L198 cf tv x1 x2 Q (wp_House_walk_b355 cf tv x1 x2 Q K95)) y3 y5 y6 r_154 0 y11_163 σ_162) ∧
          (¬ y8_158 ≤ 8 →
            Q (-3) σ_162)) ∧
        (¬ r_161 = 0 →
          wp_House_walk_b154 cf tv x1 x2 Q (wp_House_walk_b355 cf tv x1 x2 Q K95) y5 y6 r_154 y8_158 σ_162)) σ_160)) σ_157) ∧
    (¬ 0 ≤ r_156 →
      Q (-6) σ_157)) σ_155) σ)
def wp_House_walk_b82 (cf : Cf) (tv : Nat → Int) (x1 : Int) (x2 : Int) (Q : Int → St → Prop) (K83 : Int → Int → St → Prop) (y3 : Int) (σ : St) : Prop :=
  K83 y3 x1 σ
def wp_House_walk_b83 (cf : Cf) (tv : Nat → Int) (x1 : Int) (x2 : Int) (Q : Int → St → Prop) (y3 : Int) (t0 : Int) (σ : St) : Prop :=
  wp_House_next cf tv y3 0 (fun r_164 σ_165 => rI r_164 → RK σ_165 →
  lQ3 (wp_House_walk_L95 cf tv x1 x2 Q) r_164 t0 0 σ_165) σ
abbrev rm_House_walk : Room := { frames := 8, cells := 0, slots := 0, locals := 225 }
def wp_House_walk (cf : Cf) (tv : Nat → Int) (x1 : Int) (x2 : Int) (Q : Int → St → Prop) (σ : St) : Prop :=
  (¬ (gI σ 69 0) = 0 →
    ∀ y3_166, y3_166 = w32 (1024 - (gI σ 88 0)) →
    (((0 : Int) ≤ (0 : Int) ∧ (0 : Int) ≤ y3_166 ∧ (0 : Int) ≤ gI σ 88 0) ∧ (0 : Int) + (gI σ 88 0) ≤ 200 ∧ y3_166 + (gI σ 88 0) ≤ 1024) ∧
    ∀ σ_167, σ_167 = sAr σ 89 0 (cpy (gA σ 87 0) (gA σ 89 0) 0 y3_166 (gI σ 88 0)) →
    ∀ σ_168, σ_168 = sI σ_167 88 0 0 →
    wp_House_directory cf tv x1 0 (fun r_169 σ_170 => rI r_169 → RK σ_170 →
    (0 ≤ r_169 →
      (1024 ≤ y3_166 →
        wp_House_walk_b82 cf tv x1 x2 Q (wp_House_walk_b83 cf tv x1 x2 Q) y3_166 σ_170) ∧
      (¬ 1024 ≤ y3_166 →
        ((0 : Int) ≤ y3_166 ∧ y3_166 < 1024) ∧
        (¬ (gA σ_170 89 0 y3_166) = 47 →
          wp_House_walk_b82 cf tv x1 x2 Q (wp_House_walk_b83 cf tv x1 x2 Q) y3_166 σ_170) ∧
        ((gA σ_170 89 0 y3_166) = 47 →
          wp_House_walk_b83 cf tv x1 x2 Q y3_166 1 σ_170))) ∧
    (¬ 0 ≤ r_169 →
      Q r_169 σ_170)) σ_168) ∧
  ((gI σ 69 0) = 0 →
    Q (-2) σ)
/-! House.path(I)I -/
def wp_House_path_b96 (cf : Cf) (tv : Nat → Int) (x1 : Int) (Q : Int → St → Prop) (K51 : Int → Int → Int → St → Prop) (y3 : Int) (y5 : Int) (y6 : Int) (σ : St) : Prop :=
  ∀ y6_40, y6_40 = w32 (y6 + (-1)) →
  K51 y3 y5 y6_40 σ
def wp_House_path_L51 (cf : Cf) (tv : Nat → Int) (x1 : Int) (Q : Int → St → Prop) (K33 : Int → Int → St → Prop) (K51 : Int → Int → Int → St → Prop) (y3 : Int) (y5 : Int) (y6 : Int) (σ : St) : Prop :=
  (y6 < 0 →
    ∀ y3_41, y3_41 = w32 (y3 + (-1)) →
    ((0 : Int) ≤ y3_41 ∧ y3_41 < 1024) ∧
    ∀ σ_42, σ_42 = sA σ 89 0 y3_41 47 →
    ((w32 (1024 - y3_41)) ≤ 200 →
      K33 y3_41 y5 σ_42) ∧
    (¬ (w32 (1024 - y3_41)) ≤ 200 →
      Q (-10) σ_42)) ∧
  (¬ y6 < 0 →
    ((land (lushr (gI σ 93 0) (w32 (8 * y6))) 255) = 0 →
      wp_House_path_b96 cf tv x1 Q K51 y3 y5 y6 σ) ∧
    (¬ (land (lushr (gI σ 93 0) (w32 (8 * y6))) 255) = 0 →
      ∀ y3_43, y3_43 = w32 (y3 + (-1)) →
      ((0 : Int) ≤ y3_43 ∧ y3_43 < 1024) ∧
      ∀ σ_44, σ_44 = sA σ 89 0 y3_43 (b8 (w32 (lushr (gI σ 93 0) (w32 (8 * y6))))) →
      wp_House_path_b96 cf tv x1 Q K51 y3_43 y5 y6 σ_44))
def wp_House_path_b152 (cf : Cf) (tv : Nat → Int) (x1 : Int) (Q : Int → St → Prop) (y3 : Int) (σ : St) : Prop :=
  ∀ σ_45, σ_45 = sI σ 88 0 (w32 (1024 - y3)) →
  (((0 : Int) ≤ y3 ∧ (0 : Int) ≤ (0 : Int) ∧ (0 : Int) ≤ gI σ_45 88 0) ∧ y3 + (gI σ_45 88 0) ≤ 1024 ∧ (0 : Int) + (gI σ_45 88 0) ≤ 200) ∧
  ∀ σ_46, σ_46 = sAr σ_45 87 0 (cpy (gA σ_45 89 0) (gA σ_45 87 0) y3 0 (gI σ_45 88 0)) →
  Q (gI σ_46 88 0) σ_46
def wp_House_path_L33 (cf : Cf) (tv : Nat → Int) (x1 : Int) (Q : Int → St → Prop) (K33 : Int → Int → St → Prop) (y3 : Int) (y4 : Int) (σ : St) : Prop :=
  (y4 = 1 →
    (¬ y3 = 1024 →
      wp_House_path_b152 cf tv x1 Q y3 σ) ∧
    (y3 = 1024 →
      ∀ y3_47, y3_47 = w32 (y3 + (-1)) →
      ((0 : Int) ≤ y3_47 ∧ y3_47 < 1024) ∧
      ∀ σ_48, σ_48 = sA σ 89 0 y3_47 47 →
      wp_House_path_b152 cf tv x1 Q y3_47 σ_48)) ∧
  (¬ y4 = 1 →
    wp_House_above cf tv y4 (fun r_49 σ_50 => rI r_49 → RK σ_50 →
    lQ3 (wp_House_path_L51 cf tv x1 Q K33) y3 r_49 7 σ_50) σ)
abbrev rm_House_path : Room := { frames := 8, cells := 0, slots := 0, locals := 225 }
def wp_House_path (cf : Cf) (tv : Nat → Int) (x1 : Int) (Q : Int → St → Prop) (σ : St) : Prop :=
  (¬ (gI σ 69 0) = 0 →
    wp_House_directory cf tv x1 0 (fun r_51 σ_52 => rI r_51 → RK σ_52 →
    (0 ≤ r_51 →
      lQ2 (wp_House_path_L33 cf tv x1 Q) 1024 x1 σ_52) ∧
    (¬ 0 ≤ r_51 →
      Q r_51 σ_52)) σ) ∧
  ((gI σ 69 0) = 0 →
    Q (-2) σ)
/-! House.taped(I)I -/
abbrev rm_House_taped : Room := { frames := 1, cells := 0, slots := 0, locals := 22 }
def wp_House_taped (cf : Cf) (tv : Nat → Int) (x1 : Int) (Q : Int → St → Prop) (σ : St) : Prop :=
  (¬ (gI σ 69 0) = 0 →
    wp_House_isIn cf tv x1 0 (w32 ((gI σ 88 0) - 1)) (fun r_3 σ_4 => rZ r_3 → RK σ_4 →
    (r_3 = 0 →
      Q (-1) σ_4) ∧
    (¬ r_3 = 0 →
      ((0 : Int) ≤ x1 ∧ x1 < 200) ∧
      Q (iand (gA σ_4 87 0 x1) 255) σ_4)) σ) ∧
  ((gI σ 69 0) = 0 →
    Q (-2) σ)
/-! House.text(II)I -/
abbrev rm_House_text : Room := { frames := 7, cells := 0, slots := 0, locals := 204 }
def wp_House_text (cf : Cf) (tv : Nat → Int) (x1 : Int) (x2 : Int) (Q : Int → St → Prop) (σ : St) : Prop :=
  (¬ (gI σ 69 0) = 0 →
    wp_House_read cf tv x1 0 (fun r_7 σ_8 => rZ r_7 → RK σ_8 →
    (r_7 = 0 →
      Q (-4) σ_8) ∧
    (¬ r_7 = 0 →
      ((gI σ_8 641 0) = 3 →
        wp_House_piece cf tv x1 0 (fun r_9 σ_10 => rI r_9 → RK σ_10 →
        wp_House_isIn cf tv x2 0 (w32 (r_9 - 1)) (fun r_11 σ_12 => rZ r_11 → RK σ_12 →
        (r_11 = 0 →
          Q (-1) σ_12) ∧
        (¬ r_11 = 0 →
          ((0 : Int) ≤ x2 ∧ x2 < 64) ∧
          Q (iand (gA σ_12 77 0 x2) 255) σ_12)) σ_10) σ_8) ∧
      (¬ (gI σ_8 641 0) = 3 →
        Q (-4) σ_8))) σ) ∧
  ((gI σ 69 0) = 0 →
    Q (-2) σ)
/-! House.attributeOf(IJ)Z -/
abbrev rm_House_attributeOf : Room := { frames := 6, cells := 0, slots := 0, locals := 180 }
def wp_House_attributeOf (cf : Cf) (tv : Nat → Int) (x1 : Int) (x2 : Int) (Q : Int → St → Prop) (σ : St) : Prop :=
  (x1 < 1 →
    Q 0 σ) ∧
  (¬ x1 < 1 →
    wp_House_keyOf cf tv x1 3 (fun r_9 σ_10 => rJ r_9 → RK σ_10 →
    wp_Long_reverseBytes cf tv x2 (fun r_11 σ_12 => rJ r_11 → RK σ_12 →
    wp_Index_find cf tv 0 r_9 r_11 (fun r_13 σ_14 => rZ r_13 → RK σ_14 →
    (¬ r_13 = 0 →
      wp_Store_read cf tv 0 (gI σ_14 393 0) (gI σ_14 394 0) (gI σ_14 395 0) 0 (fun σ_16 => RK σ_16 →
      Q 1 σ_16) σ_14) ∧
    (r_13 = 0 →
      Q 0 σ_14)) σ_12) σ_10) σ)
/-! House.handAttribute(JJZ)V -/
abbrev rm_House_handAttribute : Room := { frames := 24, cells := 0, slots := 0, locals := 623 }
def wp_House_handAttribute (cf : Cf) (tv : Nat → Int) (x1 : Int) (x3 : Int) (x5 : Int) (Q : St → Prop) (σ : St) : Prop :=
  wp_House_begin cf tv (fun σ_20 => RK σ_20 →
  wp_Row_begin cf tv 6 9 48 (fun σ_22 => RK σ_22 →
  wp_Row_put cf tv 6 0 (gI σ_22 640 0) (fun σ_24 => RK σ_24 →
  wp_Row_put cf tv 6 4 (if x5 = 0 then (0 : Int) else (1 : Int)) (fun σ_26 => RK σ_26 →
  wp_Row_putLongAt cf tv 6 8 x1 (fun σ_28 => RK σ_28 →
  wp_Row_putLongAt cf tv 6 16 x3 (fun σ_30 => RK σ_30 →
  wp_Row_close cf tv 6 0 0 (fun σ_32 => RK σ_32 →
  wp_House_addInode cf tv 0 1 (fun σ_34 => RK σ_34 →
  wp_House_hand cf tv (fun σ_36 => RK σ_36 →
  Q σ_36) σ_34) σ_32) σ_30) σ_28) σ_26) σ_24) σ_22) σ_20) σ
/-! House.set(IJJ)I -/
def wp_House_set_b93 (cf : Cf) (tv : Nat → Int) (x1 : Int) (x2 : Int) (x4 : Int) (Q : Int → St → Prop) (y6 : Int) (σ : St) : Prop :=
  wp_House_handAttribute cf tv x2 x4 0 (fun σ_13 => RK σ_13 →
  ∀ σ_14, σ_14 = sI σ_13 71 0 (w32 ((gI σ_13 71 0) + y6)) →
  Q (gI σ_14 645 0) σ_14) σ
def wp_House_set_b75 (cf : Cf) (tv : Nat → Int) (x1 : Int) (x2 : Int) (x4 : Int) (Q : Int → St → Prop) (y6 : Int) (σ : St) : Prop :=
  (y6 ≤ 0 →
    wp_House_set_b93 cf tv x1 x2 x4 Q y6 σ) ∧
  (¬ y6 ≤ 0 →
    ∀ σ_15, σ_15 = sI σ 645 0 (w32 ((gI σ 645 0) + 1)) →
    wp_House_set_b93 cf tv x1 x2 x4 Q y6 σ_15)
abbrev rm_House_set : Room := { frames := 25, cells := 0, slots := 0, locals := 648 }
def wp_House_set (cf : Cf) (tv : Nat → Int) (x1 : Int) (x2 : Int) (x4 : Int) (Q : Int → St → Prop) (σ : St) : Prop :=
  (¬ (gI σ 69 0) = 0 →
    wp_House_isName cf tv x2 (fun r_16 σ_17 => rZ r_16 → RK σ_17 →
    (¬ r_16 = 0 →
      wp_House_read cf tv x1 0 (fun r_18 σ_19 => rZ r_18 → RK σ_19 →
      (¬ r_18 = 0 →
        wp_House_attributeOf cf tv x1 x2 (fun r_20 σ_21 => rZ r_20 → RK σ_21 →
        ∀ y6_22, y6_22 = (if r_20 = 0 then (240 : Int) else (0 : Int)) →
        (y6_22 ≤ 0 →
          wp_House_set_b75 cf tv x1 x2 x4 Q y6_22 σ_21) ∧
        (¬ y6_22 ≤ 0 →
          ((w32 ((gI σ_21 71 0) + y6_22)) ≤ (cap cf) →
            wp_House_set_b75 cf tv x1 x2 x4 Q y6_22 σ_21) ∧
          (¬ (w32 ((gI σ_21 71 0) + y6_22)) ≤ (cap cf) →
            Q (-10) σ_21))) σ_19) ∧
      (r_18 = 0 →
        Q (-4) σ_19)) σ_17) ∧
    (r_16 = 0 →
      Q (-3) σ_17)) σ) ∧
  ((gI σ 69 0) = 0 →
    Q (-2) σ)
/-! House.drop(IJ)I -/
abbrev rm_House_drop : Room := { frames := 25, cells := 0, slots := 0, locals := 648 }
def wp_House_drop (cf : Cf) (tv : Nat → Int) (x1 : Int) (x2 : Int) (Q : Int → St → Prop) (σ : St) : Prop :=
  (¬ (gI σ 69 0) = 0 →
    wp_House_isName cf tv x2 (fun r_11 σ_12 => rZ r_11 → RK σ_12 →
    (¬ r_11 = 0 →
      wp_House_read cf tv x1 0 (fun r_13 σ_14 => rZ r_13 → RK σ_14 →
      (r_13 = 0 →
        Q (-4) σ_14) ∧
      (¬ r_13 = 0 →
        wp_House_attributeOf cf tv x1 x2 (fun r_15 σ_16 => rZ r_15 → RK σ_16 →
        (¬ r_15 = 0 →
          ∀ σ_17, σ_17 = sI σ_16 645 0 (w32 ((gI σ_16 645 0) - 1)) →
          wp_House_handAttribute cf tv x2 0 1 (fun σ_19 => RK σ_19 →
          ∀ σ_20, σ_20 = sI σ_19 71 0 (w32 ((gI σ_19 71 0) - 240)) →
          Q (gI σ_20 645 0) σ_20) σ_17) ∧
        (r_15 = 0 →
          Q (-4) σ_16)) σ_14)) σ_12) ∧
    (r_11 = 0 →
      Q (-3) σ_12)) σ) ∧
  ((gI σ 69 0) = 0 →
    Q (-2) σ)
/-! House.attribute(IJ)J -/
abbrev rm_House_attribute : Room := { frames := 7, cells := 0, slots := 0, locals := 204 }
def wp_House_attribute (cf : Cf) (tv : Nat → Int) (x1 : Int) (x2 : Int) (Q : Int → St → Prop) (σ : St) : Prop :=
  ((gI σ 69 0) = 0 →
    Q 0 σ) ∧
  (¬ (gI σ 69 0) = 0 →
    wp_House_isName cf tv x2 (fun r_7 σ_8 => rZ r_7 → RK σ_8 →
    (r_7 = 0 →
      Q 0 σ_8) ∧
    (¬ r_7 = 0 →
      wp_House_attributeOf cf tv x1 x2 (fun r_9 σ_10 => rZ r_9 → RK σ_10 →
      (r_9 = 0 →
        Q 0 σ_10) ∧
      (¬ r_9 = 0 →
        wp_Row_getLongAt cf tv 0 16 (fun r_11 σ_12 => rJ r_11 → RK σ_12 →
        Q r_11 σ_12) σ_10)) σ_8)) σ)
/-! House.attributes(I)I -/
abbrev rm_House_attributes : Room := { frames := 7, cells := 0, slots := 0, locals := 203 }
def wp_House_attributes (cf : Cf) (tv : Nat → Int) (x1 : Int) (Q : Int → St → Prop) (σ : St) : Prop :=
  (¬ (gI σ 69 0) = 0 →
    wp_House_read cf tv x1 0 (fun r_3 σ_4 => rZ r_3 → RK σ_4 →
    (r_3 = 0 →
      Q (-4) σ_4) ∧
    (¬ r_3 = 0 →
      Q (gI σ_4 645 0) σ_4)) σ) ∧
  ((gI σ 69 0) = 0 →
    Q (-2) σ)
/-! House.key(II)J -/
def wp_House_key_b83 (cf : Cf) (tv : Nat → Int) (x1 : Int) (x2 : Int) (Q : Int → St → Prop) (σ : St) : Prop :=
  wp_Long_reverseBytes cf tv (gI σ 392 0) (fun r_23 σ_24 => rJ r_23 → RK σ_24 →
  Q r_23 σ_24) σ
def wp_House_key_L56 (cf : Cf) (tv : Nat → Int) (x1 : Int) (x2 : Int) (Q : Int → St → Prop) (K56 : Int → Int → St → Prop) (y3 : Int) (y4 : Int) (σ : St) : Prop :=
  (x2 ≤ y4 →
    wp_House_key_b83 cf tv x1 x2 Q σ) ∧
  (¬ x2 ≤ y4 →
    (y3 = 0 →
      wp_House_key_b83 cf tv x1 x2 Q σ) ∧
    (¬ y3 = 0 →
      wp_Index_next cf tv 0 (fun r_25 σ_26 => rZ r_25 → RK σ_26 →
      ∀ y4_27, y4_27 = w32 (y4 + 1) →
      K56 r_25 y4_27 σ_26) σ))
abbrev rm_House_key : Room := { frames := 7, cells := 0, slots := 0, locals := 203 }
def wp_House_key (cf : Cf) (tv : Nat → Int) (x1 : Int) (x2 : Int) (Q : Int → St → Prop) (σ : St) : Prop :=
  ((gI σ 69 0) = 0 →
    Q 0 σ) ∧
  (¬ (gI σ 69 0) = 0 →
    (x2 < 0 →
      Q 0 σ) ∧
    (¬ x2 < 0 →
      wp_House_read cf tv x1 0 (fun r_28 σ_29 => rZ r_28 → RK σ_29 →
      (r_28 = 0 →
        Q 0 σ_29) ∧
      (¬ r_28 = 0 →
        (x2 < (gI σ_29 645 0) →
          wp_House_keyOf cf tv x1 3 (fun r_30 σ_31 => rJ r_30 → RK σ_31 →
          wp_Index_seek cf tv 0 r_30 0 (fun r_32 σ_33 => rZ r_32 → RK σ_33 →
          lQ2 (wp_House_key_L56 cf tv x1 x2 Q) r_32 0 σ_33) σ_31) σ_29) ∧
        (¬ x2 < (gI σ_29 645 0) →
          Q 0 σ_29))) σ))
/-! House.kind(I)I -/
abbrev rm_House_kind : Room := { frames := 7, cells := 0, slots := 0, locals := 203 }
def wp_House_kind (cf : Cf) (tv : Nat → Int) (x1 : Int) (Q : Int → St → Prop) (σ : St) : Prop :=
  (¬ (gI σ 69 0) = 0 →
    wp_House_read cf tv x1 0 (fun r_3 σ_4 => rZ r_3 → RK σ_4 →
    (r_3 = 0 →
      Q 0 σ_4) ∧
    (¬ r_3 = 0 →
      Q (gI σ_4 641 0) σ_4)) σ) ∧
  ((gI σ 69 0) = 0 →
    Q (-2) σ)
/-! House.count(I)I -/
abbrev rm_House_count_2 : Room := { frames := 7, cells := 0, slots := 0, locals := 203 }
def wp_House_count_2 (cf : Cf) (tv : Nat → Int) (x1 : Int) (Q : Int → St → Prop) (σ : St) : Prop :=
  (¬ (gI σ 69 0) = 0 →
    wp_House_read cf tv x1 0 (fun r_3 σ_4 => rZ r_3 → RK σ_4 →
    (¬ r_3 = 0 →
      (¬ (gI σ_4 641 0) = 1 →
        Q (gI σ_4 642 0) σ_4) ∧
      ((gI σ_4 641 0) = 1 →
        Q (gI σ_4 644 0) σ_4)) ∧
    (r_3 = 0 →
      Q (-4) σ_4)) σ) ∧
  ((gI σ 69 0) = 0 →
    Q (-2) σ)
/-! House.size(I)I -/
abbrev rm_House_size : Room := { frames := 7, cells := 0, slots := 0, locals := 203 }
def wp_House_size (cf : Cf) (tv : Nat → Int) (x1 : Int) (Q : Int → St → Prop) (σ : St) : Prop :=
  (¬ (gI σ 69 0) = 0 →
    wp_House_read cf tv x1 0 (fun r_3 σ_4 => rZ r_3 → RK σ_4 →
    (¬ r_3 = 0 →
      (¬ (gI σ_4 641 0) = 1 →
        Q (gI σ_4 643 0) σ_4) ∧
      ((gI σ_4 641 0) = 1 →
        Q (-7) σ_4)) ∧
    (r_3 = 0 →
      Q (-4) σ_4)) σ) ∧
  ((gI σ 69 0) = 0 →
    Q (-2) σ)
/-! House.open(I)I -/
def wp_House_open_L78 (cf : Cf) (tv : Nat → Int) (x1 : Int) (Q : Int → St → Prop) (K78 : Int → St → Prop) (y2 : Int) (σ : St) : Prop :=
  (8 ≤ y2 →
    Q (-10) σ) ∧
  (¬ 8 ≤ y2 →
    ((0 : Int) ≤ y2 ∧ y2 < 8) ∧
    (¬ (gA σ 70 0 y2) = 0 →
      ∀ y2_9, y2_9 = w32 (y2 + 1) →
      K78 y2_9 σ) ∧
    ((gA σ 70 0 y2) = 0 →
      ((0 : Int) ≤ y2 ∧ y2 < 8) ∧
      ∀ σ_10, σ_10 = sA σ 70 0 y2 x1 →
      Q y2 σ_10))
def wp_House_open_b46 (cf : Cf) (tv : Nat → Int) (x1 : Int) (Q : Int → St → Prop) (σ : St) : Prop :=
  ((gI σ 641 0) = 2 →
    lQ1 (wp_House_open_L78 cf tv x1 Q) 0 σ) ∧
  (¬ (gI σ 641 0) = 2 →
    Q (if (gI σ 641 0) = 1 then (-7 : Int) else (-11 : Int)) σ)
abbrev rm_House_open : Room := { frames := 7, cells := 0, slots := 0, locals := 203 }
def wp_House_open (cf : Cf) (tv : Nat → Int) (x1 : Int) (Q : Int → St → Prop) (σ : St) : Prop :=
  (¬ (gI σ 69 0) = 0 →
    wp_House_read cf tv x1 0 (fun r_11 σ_12 => rZ r_11 → RK σ_12 →
    (r_11 = 0 →
      Q (-4) σ_12) ∧
    (¬ r_11 = 0 →
      (¬ (gI σ_12 641 0) = 2 →
        wp_House_open_b46 cf tv x1 Q σ_12) ∧
      ((gI σ_12 641 0) = 2 →
        (¬ (gI σ_12 642 0) = 0 →
          wp_House_open_b46 cf tv x1 Q σ_12) ∧
        ((gI σ_12 642 0) = 0 →
          Q (-4) σ_12)))) σ) ∧
  ((gI σ 69 0) = 0 →
    Q (-2) σ)
/-! House.isHandle(I)Z -/
abbrev rm_House_isHandle : Room := { frames := 1, cells := 0, slots := 0, locals := 22 }
def wp_House_isHandle (cf : Cf) (tv : Nat → Int) (x1 : Int) (Q : Int → St → Prop) (σ : St) : Prop :=
  wp_House_isIn cf tv x1 0 7 (fun r_3 σ_4 => rZ r_3 → RK σ_4 →
  (r_3 = 0 →
    Q 0 σ_4) ∧
  (¬ r_3 = 0 →
    ((0 : Int) ≤ x1 ∧ x1 < 8) ∧
    ((gA σ_4 70 0 x1) ≤ 0 →
      Q 0 σ_4) ∧
    (¬ (gA σ_4 70 0 x1) ≤ 0 →
      Q 1 σ_4))) σ
/-! House.close(I)I -/
abbrev rm_House_close : Room := { frames := 24, cells := 0, slots := 0, locals := 623 }
def wp_House_close (cf : Cf) (tv : Nat → Int) (x1 : Int) (Q : Int → St → Prop) (σ : St) : Prop :=
  (¬ (gI σ 69 0) = 0 →
    wp_House_isHandle cf tv x1 (fun r_20 σ_21 => rZ r_20 → RK σ_21 →
    (¬ r_20 = 0 →
      ((0 : Int) ≤ x1 ∧ x1 < 8) ∧
      ∀ y2_22, y2_22 = gA σ_21 70 0 x1 →
      ((0 : Int) ≤ x1 ∧ x1 < 8) ∧
      ∀ σ_23, σ_23 = sA σ_21 70 0 x1 0 →
      wp_House_read cf tv y2_22 0 (fun r_24 σ_25 => rZ r_24 → RK σ_25 →
      (0 < (gI σ_25 642 0) →
        Q 0 σ_25) ∧
      (¬ 0 < (gI σ_25 642 0) →
        wp_House_isOpen cf tv y2_22 (fun r_26 σ_27 => rZ r_26 → RK σ_27 →
        (r_26 = 0 →
          wp_House_roomOf cf tv y2_22 (fun r_28 σ_29 => rI r_28 → RK σ_29 →
          ∀ σ_30, σ_30 = sI σ_29 71 0 (w32 ((gI σ_27 71 0) - r_28)) →
          ∀ σ_31, σ_31 = sI σ_30 72 0 (w32 ((gI σ_30 72 0) - 1)) →
          ∀ σ_32, σ_32 = sI σ_31 641 0 0 →
          wp_House_begin cf tv (fun σ_34 => RK σ_34 →
          wp_House_addInode cf tv 0 1 (fun σ_36 => RK σ_36 →
          wp_House_hand cf tv (fun σ_38 => RK σ_38 →
          Q 1 σ_38) σ_36) σ_34) σ_32) σ_27) ∧
        (¬ r_26 = 0 →
          Q 0 σ_27)) σ_25)) σ_23) ∧
    (r_20 = 0 →
      Q (-3) σ_21)) σ) ∧
  ((gI σ 69 0) = 0 →
    Q (-2) σ)
/-! House.opened(I)I -/
abbrev rm_House_opened : Room := { frames := 2, cells := 0, slots := 0, locals := 43 }
def wp_House_opened (cf : Cf) (tv : Nat → Int) (x1 : Int) (Q : Int → St → Prop) (σ : St) : Prop :=
  (¬ (gI σ 69 0) = 0 →
    wp_House_isHandle cf tv x1 (fun r_3 σ_4 => rZ r_3 → RK σ_4 →
    (r_3 = 0 →
      Q (-1) σ_4) ∧
    (¬ r_3 = 0 →
      ((0 : Int) ≤ x1 ∧ x1 < 8) ∧
      Q (gA σ_4 70 0 x1) σ_4)) σ) ∧
  ((gI σ 69 0) = 0 →
    Q (-2) σ)
/-! House.byteOf(IJI)B -/
abbrev rm_House_byteOf : Room := { frames := 0, cells := 0, slots := 0, locals := 0 }
def wp_House_byteOf (cf : Cf) (tv : Nat → Int) (x1 : Int) (x2 : Int) (x4 : Int) (Q : Int → St → Prop) (σ : St) : Prop :=
  (¬ x1 = 0 →
    (¬ x1 = 1 →
      ((0 : Int) ≤ x4 ∧ x4 < 2048) ∧
      Q (gA σ 85 0 x4) σ) ∧
    (x1 = 1 →
      Q (b8 (w32 (w64 (x2 + (w64 (7 * x4)))))) σ)) ∧
  (x1 = 0 →
    Q (b8 (w32 (lushr x2 (w32 (8 * x4))))) σ)
/-! House.put(IIIIJ)I -/
def wp_House_put_L110 (cf : Cf) (tv : Nat → Int) (x1 : Int) (x2 : Int) (x3 : Int) (x4 : Int) (x5 : Int) (Q : Int → St → Prop) (K3 : Int → St → Prop) (K110 : Int → Int → Int → Int → Int → Int → Int → St → Prop) (y7 : Int) (y8 : Int) (y9 : Int) (y10 : Int) (y12 : Int) (y13 : Int) (y14 : Int) (σ : St) : Prop :=
  (y10 ≤ y14 →
    wp_House_read cf tv x1 0 (fun r_85 σ_86 => rZ r_85 → RK σ_86 →
    ∀ σ_87, σ_87 = sI σ_86 643 0 (max (gI σ_86 643 0) (w32 ((w32 (x2 + y7)) + y10))) →
    wp_House_begin cf tv (fun σ_89 => RK σ_89 →
    wp_House_addPiece cf tv x1 y8 y12 (fun σ_91 => RK σ_91 →
    wp_House_addInode cf tv 0 1 (fun σ_93 => RK σ_93 →
    wp_House_hand cf tv (fun σ_95 => RK σ_95 →
    ∀ σ_96, σ_96 = sI σ_95 71 0 (w32 ((gI σ_95 71 0) + y13)) →
    ∀ y7_97, y7_97 = w32 (y7 + y10) →
    K3 y7_97 σ_96) σ_93) σ_91) σ_89) σ_87) σ) ∧
  (¬ y10 ≤ y14 →
    wp_House_byteOf cf tv x4 x5 (w32 (y7 + y14)) (fun r_98 σ_99 => rB r_98 → RK σ_99 →
    ((0 : Int) ≤ w32 (y9 + y14) ∧ w32 (y9 + y14) < 64) ∧
    ∀ σ_100, σ_100 = sA σ_99 77 0 (w32 (y9 + y14)) r_98 →
    ∀ y14_101, y14_101 = w32 (y14 + 1) →
    K110 y7 y8 y9 y10 y12 y13 y14_101 σ_100) σ)
def wp_House_put_b107 (cf : Cf) (tv : Nat → Int) (x1 : Int) (x2 : Int) (x3 : Int) (x4 : Int) (x5 : Int) (Q : Int → St → Prop) (K3 : Int → St → Prop) (y7 : Int) (y8 : Int) (y9 : Int) (y10 : Int) (y12 : Int) (y13 : Int) (σ : St) : Prop :=
  lQ7 (wp_House_put_L110 cf tv x1 x2 x3 x4 x5 Q K3) y7 y8 y9 y10 y12 y13 0 σ
def wp_House_put_L3 (cf : Cf) (tv : Nat → Int) (x1 : Int) (x2 : Int) (x3 : Int) (x4 : Int) (x5 : Int) (Q : Int → St → Prop) (K3 : Int → St → Prop) (y7 : Int) (σ : St) : Prop :=
  (x3 ≤ y7 →
    Q x3 σ) ∧
  (¬ x3 ≤ y7 →
    ∀ y8_102, y8_102 = jdv (w32 (x2 + y7)) 64 →
    ∀ y9_103, y9_103 = jrm (w32 (x2 + y7)) 64 →
    ∀ y10_104, y10_104 = min (w32 (x3 - y7)) (w32 (64 - y9_103)) →
    wp_House_piece cf tv x1 y8_102 (fun r_105 σ_106 => rI r_105 → RK σ_106 →
    ∀ y12_107, y12_107 = max r_105 (w32 (y9_103 + y10_104)) →
    wp_House_itemOf cf tv y12_107 (fun r_108 σ_109 => rI r_108 → RK σ_109 →
    wp_House_itemOf cf tv r_105 (fun r_110 σ_111 => rI r_110 → RK σ_111 →
    ∀ y13_112, y13_112 = w32 (r_108 - r_110) →
    (y13_112 ≤ 0 →
      wp_House_put_b107 cf tv x1 x2 x3 x4 x5 Q K3 y7 y8_102 y9_103 y10_104 y12_107 y13_112 σ_111) ∧
    (¬ y13_112 ≤ 0 →
      ((w32 ((gI σ_111 71 0) + y13_112)) ≤ (cap cf) →
        wp_House_put_b107 cf tv x1 x2 x3 x4 x5 Q K3 y7 y8_102 y9_103 y10_104 y12_107 y13_112 σ_111) ∧
      (¬ (w32 ((gI σ_111 71 0) + y13_112)) ≤ (cap cf) →
        (¬ y7 = 0 →
          Q y7 σ_111) ∧
        (y7 = 0 →
          Q (-10) σ_111)))) σ_109) σ_106) σ)
abbrev rm_House_put : Room := { frames := 24, cells := 0, slots := 0, locals := 623 }
def wp_House_put (cf : Cf) (tv : Nat → Int) (x1 : Int) (x2 : Int) (x3 : Int) (x4 : Int) (x5 : Int) (Q : Int → St → Prop) (σ : St) : Prop :=
  lQ1 (wp_House_put_L3 cf tv x1 x2 x3 x4 x5 Q) 0 σ
/-! House.write(IIJI)I -/
abbrev rm_House_write : Room := { frames := 25, cells := 0, slots := 0, locals := 657 }
def wp_House_write (cf : Cf) (tv : Nat → Int) (x1 : Int) (x2 : Int) (x3 : Int) (x5 : Int) (Q : Int → St → Prop) (σ : St) : Prop :=
  (¬ (gI σ 69 0) = 0 →
    wp_House_isHandle cf tv x1 (fun r_9 σ_10 => rZ r_9 → RK σ_10 →
    (r_9 = 0 →
      Q (-3) σ_10) ∧
    (¬ r_9 = 0 →
      wp_House_isIn cf tv x5 1 8 (fun r_11 σ_12 => rZ r_11 → RK σ_12 →
      (r_11 = 0 →
        Q (-3) σ_12) ∧
      (¬ r_11 = 0 →
        wp_House_isIn cf tv x2 0 (w32 (16384 - x5)) (fun r_13 σ_14 => rZ r_13 → RK σ_14 →
        (¬ r_13 = 0 →
          ((0 : Int) ≤ x1 ∧ x1 < 8) ∧
          wp_House_put cf tv (gA σ_14 70 0 x1) x2 x5 0 x3 (fun r_15 σ_16 => rI r_15 → RK σ_16 →
          Q r_15 σ_16) σ_14) ∧
        (r_13 = 0 →
          Q (-3) σ_14)) σ_12)) σ_10)) σ) ∧
  ((gI σ 69 0) = 0 →
    Q (-2) σ)
/-! House.fill(IIII)I -/
abbrev rm_House_fill : Room := { frames := 25, cells := 0, slots := 0, locals := 657 }
def wp_House_fill (cf : Cf) (tv : Nat → Int) (x1 : Int) (x2 : Int) (x3 : Int) (x4 : Int) (Q : Int → St → Prop) (σ : St) : Prop :=
  (¬ (gI σ 69 0) = 0 →
    wp_House_isHandle cf tv x1 (fun r_9 σ_10 => rZ r_9 → RK σ_10 →
    (r_9 = 0 →
      Q (-3) σ_10) ∧
    (¬ r_9 = 0 →
      wp_House_isIn cf tv x3 1 2048 (fun r_11 σ_12 => rZ r_11 → RK σ_12 →
      (r_11 = 0 →
        Q (-3) σ_12) ∧
      (¬ r_11 = 0 →
        wp_House_isIn cf tv x2 0 (w32 (16384 - x3)) (fun r_13 σ_14 => rZ r_13 → RK σ_14 →
        (¬ r_13 = 0 →
          ((0 : Int) ≤ x1 ∧ x1 < 8) ∧
          wp_House_put cf tv (gA σ_14 70 0 x1) x2 x3 1 x4 (fun r_15 σ_16 => rI r_15 → RK σ_16 →
          Q r_15 σ_16) σ_14) ∧
        (r_13 = 0 →
          Q (-3) σ_14)) σ_12)) σ_10)) σ) ∧
  ((gI σ 69 0) = 0 →
    Q (-2) σ)
/-! House.copy(IIIII)I -/
def wp_House_copy_L101 (cf : Cf) (tv : Nat → Int) (x1 : Int) (x2 : Int) (x3 : Int) (x4 : Int) (x5 : Int) (Q : Int → St → Prop) (K101 : Int → Int → St → Prop) (y6 : Int) (y7 : Int) (σ : St) : Prop :=
  (y6 ≤ y7 →
    ((0 : Int) ≤ x3 ∧ x3 < 8) ∧
    wp_House_put cf tv (gA σ 70 0 x3) x4 y6 2 0 (fun r_39 σ_40 => rI r_39 → RK σ_40 →
    Q r_39 σ_40) σ) ∧
  (¬ y6 ≤ y7 →
    ∀ y8_41, y8_41 = jrm (w32 (x2 + y7)) 64 →
    ∀ y9_42, y9_42 = min (w32 (y6 - y7)) (w32 (64 - y8_41)) →
    wp_House_piece cf tv (gI σ 640 0) (jdv (w32 (x2 + y7)) 64) (fun r_43 σ_44 => rI r_43 → RK σ_44 →
    (((0 : Int) ≤ y8_41 ∧ (0 : Int) ≤ y7 ∧ (0 : Int) ≤ y9_42) ∧ y8_41 + y9_42 ≤ 64 ∧ y7 + y9_42 ≤ 2048) ∧
    ∀ σ_45, σ_45 = sAr σ_44 85 0 (cpy (gA σ_44 77 0) (gA σ_44 85 0) y8_41 y7 y9_42) →
    ∀ y7_46, y7_46 = w32 (y7 + y9_42) →
    K101 y6 y7_46 σ_45) σ)
abbrev rm_House_copy : Room := { frames := 25, cells := 0, slots := 0, locals := 657 }
def wp_House_copy (cf : Cf) (tv : Nat → Int) (x1 : Int) (x2 : Int) (x3 : Int) (x4 : Int) (x5 : Int) (Q : Int → St → Prop) (σ : St) : Prop :=
  (¬ (gI σ 69 0) = 0 →
    wp_House_isHandle cf tv x1 (fun r_47 σ_48 => rZ r_47 → RK σ_48 →
    (r_47 = 0 →
      Q (-3) σ_48) ∧
    (¬ r_47 = 0 →
      wp_House_isHandle cf tv x3 (fun r_49 σ_50 => rZ r_49 → RK σ_50 →
      (r_49 = 0 →
        Q (-3) σ_50) ∧
      (¬ r_49 = 0 →
        wp_House_isIn cf tv x5 1 2048 (fun r_51 σ_52 => rZ r_51 → RK σ_52 →
        (r_51 = 0 →
          Q (-3) σ_52) ∧
        (¬ r_51 = 0 →
          (x2 < 0 →
            Q (-3) σ_52) ∧
          (¬ x2 < 0 →
            wp_House_isIn cf tv x4 0 (w32 (16384 - x5)) (fun r_53 σ_54 => rZ r_53 → RK σ_54 →
            (¬ r_53 = 0 →
              ((0 : Int) ≤ x1 ∧ x1 < 8) ∧
              wp_House_read cf tv (gA σ_54 70 0 x1) 0 (fun r_55 σ_56 => rZ r_55 → RK σ_56 →
              ∀ y6_57, y6_57 = min x5 (w32 ((gI σ_56 643 0) - x2)) →
              (0 < y6_57 →
                lQ2 (wp_House_copy_L101 cf tv x1 x2 x3 x4 x5 Q) y6_57 0 σ_56) ∧
              (¬ 0 < y6_57 →
                Q 0 σ_56)) σ_54) ∧
            (r_53 = 0 →
              Q (-3) σ_54)) σ_52))) σ_50)) σ_48)) σ) ∧
  ((gI σ 69 0) = 0 →
    Q (-2) σ)
/-! House.resize(II)I -/
def wp_House_resize_b153 (cf : Cf) (tv : Nat → Int) (x1 : Int) (x2 : Int) (Q : Int → St → Prop) (K154 : Int → Int → Int → Int → St → Prop) (y3 : Int) (y4 : Int) (y5 : Int) (σ : St) : Prop :=
  K154 y3 y4 y5 0 σ
def wp_House_resize_b154 (cf : Cf) (tv : Nat → Int) (x1 : Int) (x2 : Int) (Q : Int → St → Prop) (K222 : Int → Int → Int → St → Prop) (y3 : Int) (y4 : Int) (y5 : Int) (t0 : Int) (σ : St) : Prop :=
  wp_Row_begin cf tv 6 4 40 (fun σ_36 => RK σ_36 →
  wp_Row_put cf tv 6 0 y3 (fun σ_38 => RK σ_38 →
  wp_Row_put cf tv 6 4 x2 (fun σ_40 => RK σ_40 →
  wp_Row_close cf tv 6 0 (if t0 = 0 then (1 : Int) else (0 : Int)) (fun σ_42 => RK σ_42 →
  (t0 = 0 →
    K222 y3 y4 y5 σ_42) ∧
  (¬ t0 = 0 →
    wp_House_addPiece cf tv y3 (jdv x2 64) (jrm x2 64) (fun σ_44 => RK σ_44 →
    wp_Row_close cf tv 6 0 1 (fun σ_46 => RK σ_46 →
    K222 y3 y4 y5 σ_46) σ_44) σ_42)) σ_40) σ_38) σ_36) σ
def wp_House_resize_b131 (cf : Cf) (tv : Nat → Int) (x1 : Int) (x2 : Int) (Q : Int → St → Prop) (K222 : Int → Int → Int → St → Prop) (y3 : Int) (y4 : Int) (y5 : Int) (t0 : Int) (σ : St) : Prop :=
  (t0 ≤ (jrm x2 64) →
    wp_House_resize_b153 cf tv x1 x2 Q (wp_House_resize_b154 cf tv x1 x2 Q K222) y3 y4 y5 σ) ∧
  (¬ t0 ≤ (jrm x2 64) →
    ((jrm x2 64) ≤ 0 →
      wp_House_resize_b153 cf tv x1 x2 Q (wp_House_resize_b154 cf tv x1 x2 Q K222) y3 y4 y5 σ) ∧
    (¬ (jrm x2 64) ≤ 0 →
      wp_House_resize_b154 cf tv x1 x2 Q K222 y3 y4 y5 1 σ))
def wp_House_resize_b222 (cf : Cf) (tv : Nat → Int) (x1 : Int) (x2 : Int) (Q : Int → St → Prop) (y3 : Int) (y4 : Int) (y5 : Int) (σ : St) : Prop :=
  wp_House_hand cf tv (fun σ_48 => RK σ_48 →
  wp_House_roomOf cf tv y3 (fun r_49 σ_50 => rI r_49 → RK σ_50 →
  ∀ σ_51, σ_51 = sI σ_50 71 0 (w32 ((gI σ_48 71 0) + (w32 (r_49 - y5)))) →
  Q y4 σ_51) σ_48) σ
abbrev rm_House_resize : Room := { frames := 24, cells := 0, slots := 0, locals := 623 }
def wp_House_resize (cf : Cf) (tv : Nat → Int) (x1 : Int) (x2 : Int) (Q : Int → St → Prop) (σ : St) : Prop :=
  (¬ (gI σ 69 0) = 0 →
    wp_House_isHandle cf tv x1 (fun r_52 σ_53 => rZ r_52 → RK σ_53 →
    (r_52 = 0 →
      Q (-3) σ_53) ∧
    (¬ r_52 = 0 →
      wp_House_isIn cf tv x2 0 16384 (fun r_54 σ_55 => rZ r_54 → RK σ_55 →
      (¬ r_54 = 0 →
        ((0 : Int) ≤ x1 ∧ x1 < 8) ∧
        ∀ y3_56, y3_56 = gA σ_55 70 0 x1 →
        wp_House_read cf tv y3_56 0 (fun r_57 σ_58 => rZ r_57 → RK σ_58 →
        ∀ y4_59, y4_59 = gI σ_58 643 0 →
        (¬ x2 = y4_59 →
          wp_House_roomOf cf tv y3_56 (fun r_60 σ_61 => rI r_60 → RK σ_61 →
          ∀ σ_62, σ_62 = sI σ_61 643 0 x2 →
          wp_House_begin cf tv (fun σ_64 => RK σ_64 →
          wp_House_addInode cf tv 0 (if x2 ≤ y4_59 then (0 : Int) else (1 : Int)) (fun σ_66 => RK σ_66 →
          (y4_59 ≤ x2 →
            wp_House_resize_b222 cf tv x1 x2 Q y3_56 y4_59 r_60 σ_66) ∧
          (¬ y4_59 ≤ x2 →
            (¬ (jrm x2 64) = 0 →
              wp_House_piece cf tv y3_56 (jdv x2 64) (fun r_67 σ_68 => rI r_67 → RK σ_68 →
              wp_House_resize_b131 cf tv x1 x2 Q (wp_House_resize_b222 cf tv x1 x2 Q) y3_56 y4_59 r_60 r_67 σ_68) σ_66) ∧
            ((jrm x2 64) = 0 →
              wp_House_resize_b131 cf tv x1 x2 Q (wp_House_resize_b222 cf tv x1 x2 Q) y3_56 y4_59 r_60 0 σ_66))) σ_64) σ_62) σ_58) ∧
        (x2 = y4_59 →
          Q y4_59 σ_58)) σ_55) ∧
      (r_54 = 0 →
        Q (-3) σ_55)) σ_53)) σ) ∧
  ((gI σ 69 0) = 0 →
    Q (-2) σ)
/-! House.byteAt(II)I -/
abbrev rm_House_byteAt : Room := { frames := 7, cells := 0, slots := 0, locals := 204 }
def wp_House_byteAt (cf : Cf) (tv : Nat → Int) (x1 : Int) (x2 : Int) (Q : Int → St → Prop) (σ : St) : Prop :=
  (¬ (gI σ 69 0) = 0 →
    wp_House_isHandle cf tv x1 (fun r_9 σ_10 => rZ r_9 → RK σ_10 →
    (¬ r_9 = 0 →
      ((0 : Int) ≤ x1 ∧ x1 < 8) ∧
      wp_House_read cf tv (gA σ_10 70 0 x1) 0 (fun r_11 σ_12 => rZ r_11 → RK σ_12 →
      wp_House_isIn cf tv x2 0 (w32 ((gI σ_12 643 0) - 1)) (fun r_13 σ_14 => rZ r_13 → RK σ_14 →
      (¬ r_13 = 0 →
        wp_House_piece cf tv (gI σ_14 640 0) (jdv x2 64) (fun r_15 σ_16 => rI r_15 → RK σ_16 →
        ((0 : Int) ≤ jrm x2 64 ∧ jrm x2 64 < 64) ∧
        Q (iand (gA σ_16 77 0 (jrm x2 64)) 255) σ_16) σ_14) ∧
      (r_13 = 0 →
        Q (-1) σ_14)) σ_12) σ_10) ∧
    (r_9 = 0 →
      Q (-3) σ_10)) σ) ∧
  ((gI σ 69 0) = 0 →
    Q (-2) σ)
/-! House.word(II)J -/
def wp_House_word_b120 (cf : Cf) (tv : Nat → Int) (x1 : Int) (x2 : Int) (Q : Int → St → Prop) (K38 : Int → Int → St → Prop) (y3 : Int) (y5 : Int) (σ : St) : Prop :=
  ∀ y5_34, y5_34 = w32 (y5 + (-1)) →
  K38 y3 y5_34 σ
def wp_House_word_L38 (cf : Cf) (tv : Nat → Int) (x1 : Int) (x2 : Int) (Q : Int → St → Prop) (K38 : Int → Int → St → Prop) (y3 : Int) (y5 : Int) (σ : St) : Prop :=
  (y5 < 0 →
    Q y3 σ) ∧
  (¬ y5 < 0 →
    ∀ y3_35, y3_35 = lshl y3 8 →
    ((w32 (2147483647 - y5)) < x2 →
      wp_House_word_b120 cf tv x1 x2 Q K38 y3_35 y5 σ) ∧
    (¬ (w32 (2147483647 - y5)) < x2 →
      wp_House_isIn cf tv (w32 (x2 + y5)) 0 (w32 ((gI σ 643 0) - 1)) (fun r_36 σ_37 => rZ r_36 → RK σ_37 →
      (¬ r_36 = 0 →
        wp_House_piece cf tv (gI σ_37 640 0) (jdv (w32 (x2 + y5)) 64) (fun r_38 σ_39 => rI r_38 → RK σ_39 →
        ((0 : Int) ≤ jrm (w32 (x2 + y5)) 64 ∧ jrm (w32 (x2 + y5)) 64 < 64) ∧
        ∀ y3_40, y3_40 = lor y3_35 (land (gA σ_39 77 0 (jrm (w32 (x2 + y5)) 64)) 255) →
        wp_House_word_b120 cf tv x1 x2 Q K38 y3_40 y5 σ_39) σ_37) ∧
      (r_36 = 0 →
        wp_House_word_b120 cf tv x1 x2 Q K38 y3_35 y5 σ_37)) σ))
abbrev rm_House_word : Room := { frames := 7, cells := 0, slots := 0, locals := 204 }
def wp_House_word (cf : Cf) (tv : Nat → Int) (x1 : Int) (x2 : Int) (Q : Int → St → Prop) (σ : St) : Prop :=
  ((gI σ 69 0) = 0 →
    Q 0 σ) ∧
  (¬ (gI σ 69 0) = 0 →
    wp_House_isHandle cf tv x1 (fun r_41 σ_42 => rZ r_41 → RK σ_42 →
    (¬ r_41 = 0 →
      ((0 : Int) ≤ x1 ∧ x1 < 8) ∧
      wp_House_read cf tv (gA σ_42 70 0 x1) 0 (fun r_43 σ_44 => rZ r_43 → RK σ_44 →
      lQ2 (wp_House_word_L38 cf tv x1 x2 Q) 0 7 σ_44) σ_42) ∧
    (r_41 = 0 →
      Q 0 σ_42)) σ)
/-! House.sum(I)J -/
def wp_House_sum_L70 (cf : Cf) (tv : Nat → Int) (x1 : Int) (Q : Int → St → Prop) (K37 : Int → Int → St → Prop) (K70 : Int → Int → Int → Int → St → Prop) (y2 : Int) (y4 : Int) (y5 : Int) (y6 : Int) (σ : St) : Prop :=
  (y5 ≤ y6 →
    ∀ y4_28, y4_28 = w32 (y4 + 1) →
    K37 y2 y4_28 σ) ∧
  (¬ y5 ≤ y6 →
    ((0 : Int) ≤ y6 ∧ y6 < 64) ∧
    ∀ y2_29, y2_29 = w64 (y2 + (w64 ((land (gA σ 77 0 y6) 255) * (w32 ((w32 ((w32 (y4 * 64)) + y6)) + 1))))) →
    ∀ y6_30, y6_30 = w32 (y6 + 1) →
    K70 y2_29 y4 y5 y6_30 σ)
def wp_House_sum_L37 (cf : Cf) (tv : Nat → Int) (x1 : Int) (Q : Int → St → Prop) (K37 : Int → Int → St → Prop) (y2 : Int) (y4 : Int) (σ : St) : Prop :=
  ((gI σ 643 0) ≤ (w32 (y4 * 64)) →
    Q y2 σ) ∧
  (¬ (gI σ 643 0) ≤ (w32 (y4 * 64)) →
    wp_House_piece cf tv (gI σ 640 0) y4 (fun r_31 σ_32 => rI r_31 → RK σ_32 →
    lQ4 (wp_House_sum_L70 cf tv x1 Q K37) y2 y4 r_31 0 σ_32) σ)
abbrev rm_House_sum : Room := { frames := 7, cells := 0, slots := 0, locals := 204 }
def wp_House_sum (cf : Cf) (tv : Nat → Int) (x1 : Int) (Q : Int → St → Prop) (σ : St) : Prop :=
  ((gI σ 69 0) = 0 →
    Q 0 σ) ∧
  (¬ (gI σ 69 0) = 0 →
    wp_House_isHandle cf tv x1 (fun r_33 σ_34 => rZ r_33 → RK σ_34 →
    (¬ r_33 = 0 →
      ((0 : Int) ≤ x1 ∧ x1 < 8) ∧
      wp_House_read cf tv (gA σ_34 70 0 x1) 0 (fun r_35 σ_36 => rZ r_35 → RK σ_36 →
      lQ2 (wp_House_sum_L37 cf tv x1 Q) 0 0 σ_36) σ_34) ∧
    (r_33 = 0 →
      Q 0 σ_34)) σ)
/-! House.isRaw(I)Z -/
abbrev rm_House_isRaw : Room := { frames := 1, cells := 0, slots := 0, locals := 22 }
def wp_House_isRaw (cf : Cf) (tv : Nat → Int) (x1 : Int) (Q : Int → St → Prop) (σ : St) : Prop :=
  wp_House_isIn cf tv x1 0 (w32 (cf.2.2 - 1)) (fun r_3 σ_4 => rZ r_3 → RK σ_4 →
  Q r_3 σ_4) σ
/-! House.rawWrite(II)I -/
abbrev rm_House_rawWrite : Room := { frames := 9, cells := 0, slots := 0, locals := 264 }
def wp_House_rawWrite (cf : Cf) (tv : Nat → Int) (x1 : Int) (x2 : Int) (Q : Int → St → Prop) (σ : St) : Prop :=
  (¬ (gI σ 69 0) = 0 →
    wp_House_isRaw cf tv x1 (fun r_9 σ_10 => rZ r_9 → RK σ_10 →
    (¬ r_9 = 0 →
      wp_Blocks_written cf tv 0 (w32 (4 + x1)) (fun r_11 σ_12 => rI r_11 → RK σ_12 →
      wp_Blocks_pages cf tv 0 (fun r_13 σ_14 => rI r_13 → RK σ_14 →
      (¬ r_11 = r_13 →
        wp_Blocks_writeRule cf tv 0 (w32 (4 + x1)) x2 (fun r_15 σ_16 => rI r_15 → RK σ_16 →
        Q r_15 σ_16) σ_14) ∧
      (r_11 = r_13 →
        Q (-10) σ_14)) σ_12) σ_10) ∧
    (r_9 = 0 →
      Q (-3) σ_10)) σ) ∧
  ((gI σ 69 0) = 0 →
    Q (-2) σ)
/-! House.rawChange(III)I -/
abbrev rm_House_rawChange : Room := { frames := 7, cells := 0, slots := 0, locals := 218 }
def wp_House_rawChange (cf : Cf) (tv : Nat → Int) (x1 : Int) (x2 : Int) (x3 : Int) (Q : Int → St → Prop) (σ : St) : Prop :=
  (¬ (gI σ 69 0) = 0 →
    wp_House_isRaw cf tv x1 (fun r_11 σ_12 => rZ r_11 → RK σ_12 →
    (r_11 = 0 →
      Q (-3) σ_12) ∧
    (¬ r_11 = 0 →
      wp_Blocks_pages cf tv 0 (fun r_13 σ_14 => rI r_13 → RK σ_14 →
      wp_House_isIn cf tv x2 0 r_13 (fun r_15 σ_16 => rZ r_15 → RK σ_16 →
      (¬ r_15 = 0 →
        wp_Blocks_written cf tv 0 (w32 (4 + x1)) (fun r_17 σ_18 => rI r_17 → RK σ_18 →
        wp_Blocks_change cf tv 0 (w32 (4 + x1)) x2 x3 (fun σ_20 => RK σ_20 →
        Q r_17 σ_20) σ_18) σ_16) ∧
      (r_15 = 0 →
        Q (-3) σ_16)) σ_14) σ_12)) σ) ∧
  ((gI σ 69 0) = 0 →
    Q (-2) σ)
/-! House.rawByte(II)I -/
abbrev rm_House_rawByte : Room := { frames := 3, cells := 0, slots := 0, locals := 131 }
def wp_House_rawByte (cf : Cf) (tv : Nat → Int) (x1 : Int) (x2 : Int) (Q : Int → St → Prop) (σ : St) : Prop :=
  (¬ (gI σ 69 0) = 0 →
    wp_House_isRaw cf tv x1 (fun r_9 σ_10 => rZ r_9 → RK σ_10 →
    (¬ r_9 = 0 →
      wp_Blocks_written cf tv 0 (w32 (4 + x1)) (fun r_11 σ_12 => rI r_11 → RK σ_12 →
      wp_House_isIn cf tv x2 0 (w32 ((w32 (r_11 * 128)) - 1)) (fun r_13 σ_14 => rZ r_13 → RK σ_14 →
      (¬ r_13 = 0 →
        wp_Blocks_read cf tv 0 (w32 (4 + x1)) (jdv x2 128) 86 0 0 (fun σ_16 => RK σ_16 →
        ((0 : Int) ≤ jrm x2 128 ∧ jrm x2 128 < 128) ∧
        Q (iand (gA σ_16 86 0 (jrm x2 128)) 255) σ_16) σ_14) ∧
      (r_13 = 0 →
        Q (-1) σ_14)) σ_12) σ_10) ∧
    (r_9 = 0 →
      Q (-3) σ_10)) σ) ∧
  ((gI σ 69 0) = 0 →
    Q (-2) σ)
/-! House.rawPages(I)I -/
abbrev rm_House_rawPages : Room := { frames := 2, cells := 0, slots := 0, locals := 101 }
def wp_House_rawPages (cf : Cf) (tv : Nat → Int) (x1 : Int) (Q : Int → St → Prop) (σ : St) : Prop :=
  (¬ (gI σ 69 0) = 0 →
    wp_House_isRaw cf tv x1 (fun r_5 σ_6 => rZ r_5 → RK σ_6 →
    (r_5 = 0 →
      Q (-3) σ_6) ∧
    (¬ r_5 = 0 →
      wp_Blocks_written cf tv 0 (w32 (4 + x1)) (fun r_7 σ_8 => rI r_7 → RK σ_8 →
      Q r_7 σ_8) σ_6)) σ) ∧
  ((gI σ 69 0) = 0 →
    Q (-2) σ)
/-! House.sync()I -/
abbrev rm_House_sync : Room := { frames := 10, cells := 0, slots := 0, locals := 281 }
def wp_House_sync (cf : Cf) (tv : Nat → Int) (Q : Int → St → Prop) (σ : St) : Prop :=
  (¬ (gI σ 69 0) = 0 →
    ∀ y1_4, y1_4 = gI σ 205 0 →
    wp_Store_sync cf tv 0 (fun σ_6 => RK σ_6 →
    Q y1_4 σ_6) σ) ∧
  ((gI σ 69 0) = 0 →
    Q (-2) σ)
/-! House.waiting()I -/
abbrev rm_House_waiting : Room := { frames := 0, cells := 0, slots := 0, locals := 0 }
def wp_House_waiting (cf : Cf) (tv : Nat → Int) (Q : Int → St → Prop) (σ : St) : Prop :=
  ((gI σ 69 0) = 0 →
    Q (-2) σ) ∧
  (¬ (gI σ 69 0) = 0 →
    Q (gI σ 205 0) σ)
/-! House.cut()I -/
abbrev rm_House_cut : Room := { frames := 2, cells := 0, slots := 0, locals := 40 }
def wp_House_cut (cf : Cf) (tv : Nat → Int) (Q : Int → St → Prop) (σ : St) : Prop :=
  (¬ (gI σ 69 0) = 0 →
    ∀ y1_8, y1_8 = gI σ 205 0 →
    wp_Store_lose cf tv 0 (fun σ_10 => RK σ_10 →
    wp_Arrays_fill_2 cf tv 70 0 0 (fun σ_12 => RK σ_12 →
    ∀ σ_13, σ_13 = sI σ_12 88 0 0 →
    ∀ σ_14, σ_14 = sI σ_13 69 0 0 →
    Q y1_8 σ_14) σ_10) σ) ∧
  ((gI σ 69 0) = 0 →
    Q (-2) σ)
/-! House.on()I -/
def wp_House_on_L31 (cf : Cf) (tv : Nat → Int) (Q : Int → St → Prop) (K31 : Int → Int → St → Prop) (y1 : Int) (y2 : Int) (σ : St) : Prop :=
  (y1 ≤ y2 →
    ∀ σ_25, σ_25 = sI σ 218 0 0 →
    wp_Store_settle cf tv 0 (fun σ_27 => RK σ_27 →
    wp_House_count cf tv (fun σ_29 => RK σ_29 →
    Q y1 σ_29) σ_27) σ_25) ∧
  (¬ y1 ≤ y2 →
    ((0 : Int) ≤ y2 ∧ y2 < 16) ∧
    wp_Store_forget cf tv 0 (gA σ 217 0 y2) (fun σ_31 => RK σ_31 →
    ∀ y2_32, y2_32 = w32 (y2 + 1) →
    K31 y1 y2_32 σ_31) σ)
abbrev rm_House_on : Room := { frames := 25, cells := 0, slots := 0, locals := 646 }
def wp_House_on (cf : Cf) (tv : Nat → Int) (Q : Int → St → Prop) (σ : St) : Prop :=
  ((gI σ 69 0) = 0 →
    ∀ σ_33, σ_33 = sI σ 69 0 1 →
    wp_Store_find cf tv 0 (fun σ_35 => RK σ_35 →
    ∀ y1_36, y1_36 = gI σ_35 218 0 →
    lQ2 (wp_House_on_L31 cf tv Q) y1_36 0 σ_35) σ_33) ∧
  (¬ (gI σ 69 0) = 0 →
    Q (-1) σ)
/-! House.work()V -/
abbrev rm_House_work : Room := { frames := 21, cells := 0, slots := 0, locals := 554 }
def wp_House_work (cf : Cf) (tv : Nat → Int) (Q : St → Prop) (σ : St) : Prop :=
  ((gI σ 69 0) = 0 →
    Q σ) ∧
  (¬ (gI σ 69 0) = 0 →
    wp_Store_work cf tv 0 (fun σ_4 => RK σ_4 →
    Q σ_4) σ)
/-! House.fail(I)Z -/
abbrev rm_House_fail : Room := { frames := 1, cells := 0, slots := 0, locals := 22 }
def wp_House_fail (cf : Cf) (tv : Nat → Int) (x1 : Int) (Q : Int → St → Prop) (σ : St) : Prop :=
  ((gI σ 69 0) = 0 →
    Q 0 σ) ∧
  (¬ (gI σ 69 0) = 0 →
    wp_House_isIn cf tv x1 1 1000 (fun r_6 σ_7 => rZ r_6 → RK σ_7 →
    (r_6 = 0 →
      Q 0 σ_7) ∧
    (¬ r_6 = 0 →
      (¬ (gI σ_7 73 0) = 4 →
        ∀ σ_8, σ_8 = sI σ_7 73 0 (w32 ((gI σ_7 73 0) + 1)) →
        wp_Flash_failIn cf tv x1 (fun σ_10 => RK σ_10 →
        Q 1 σ_10) σ_8) ∧
      ((gI σ_7 73 0) = 4 →
        Q 0 σ_7))) σ)
/-! House.flip(I)Z -/
abbrev rm_House_flip : Room := { frames := 1, cells := 0, slots := 0, locals := 27 }
def wp_House_flip (cf : Cf) (tv : Nat → Int) (x1 : Int) (Q : Int → St → Prop) (σ : St) : Prop :=
  ((gI σ 69 0) = 0 →
    Q 0 σ) ∧
  (¬ (gI σ 69 0) = 0 →
    (x1 < 0 →
      Q 0 σ) ∧
    (¬ x1 < 0 →
      (¬ (gI σ 74 0) = 200 →
        ∀ σ_4, σ_4 = sI σ 74 0 (w32 ((gI σ 74 0) + 1)) →
        wp_Flash_turn cf tv x1 (fun σ_6 => RK σ_6 →
        Q 1 σ_6) σ_4) ∧
      ((gI σ 74 0) = 200 →
        Q 0 σ)))
/-! House.openHandles()I -/
def wp_House_openHandles_L4 (cf : Cf) (tv : Nat → Int) (Q : Int → St → Prop) (K4 : Int → Int → St → Prop) (y1 : Int) (y2 : Int) (σ : St) : Prop :=
  (8 ≤ y2 →
    Q y1 σ) ∧
  (¬ 8 ≤ y2 →
    ((0 : Int) ≤ y2 ∧ y2 < 8) ∧
    ∀ y1_5, y1_5 = w32 (y1 + (if (gA σ 70 0 y2) ≤ 0 then (0 : Int) else (1 : Int))) →
    ∀ y2_6, y2_6 = w32 (y2 + 1) →
    K4 y1_5 y2_6 σ)
abbrev rm_House_openHandles : Room := { frames := 0, cells := 0, slots := 0, locals := 0 }
def wp_House_openHandles (cf : Cf) (tv : Nat → Int) (Q : Int → St → Prop) (σ : St) : Prop :=
  lQ2 (wp_House_openHandles_L4 cf tv Q) 0 0 σ
/-! House.told(I)I -/
abbrev rm_House_told : Room := { frames := 1, cells := 0, slots := 0, locals := 22 }
def wp_House_told (cf : Cf) (tv : Nat → Int) (x1 : Int) (Q : Int → St → Prop) (σ : St) : Prop :=
  (¬ (gI σ 69 0) = 0 →
    (x1 = 0 →
      Q (gI σ 71 0) σ) ∧
    (x1 = 1 →
      Q (cap cf) σ) ∧
    (x1 = 2 →
      Q (gI σ 72 0) σ) ∧
    (x1 = 3 →
      wp_House_openHandles cf tv (fun r_5 σ_6 => rI r_5 → RK σ_6 →
      Q r_5 σ_6) σ) ∧
    (x1 = 4 →
      wp_Store_place cf tv 0 (fun r_7 σ_8 => rI r_7 → RK σ_8 →
      Q r_7 σ_8) σ) ∧
    (x1 = 5 →
      Q (gI σ 203 0) σ) ∧
    (x1 = 6 →
      Q (gI σ 73 0) σ) ∧
    (x1 = 7 →
      Q (gI σ 74 0) σ) ∧
    (x1 = 8 →
      Q (gI σ 88 0) σ) ∧
    ((x1 < 0 ∨ 8 < x1) →
    Q (-3) σ)) ∧
  ((gI σ 69 0) = 0 →
    Q (-2) σ)
/-! House.many(II)I -/
def wp_House_many_L23 (cf : Cf) (tv : Nat → Int) (x1 : Int) (x2 : Int) (Q : Int → St → Prop) (K23 : Int → Int → Int → St → Prop) (y3 : Int) (y5 : Int) (y6 : Int) (σ : St) : Prop :=
  (y6 = 0 →
    Q y5 σ) ∧
  (¬ y6 = 0 →
    (¬ (gI σ 391 0) = y3 →
      Q y5 σ) ∧
    ((gI σ 391 0) = y3 →
      ∀ y5_15, y5_15 = w32 (y5 + 1) →
      wp_Index_next cf tv 0 (fun r_16 σ_17 => rZ r_16 → RK σ_17 →
      K23 y3 y5_15 r_16 σ_17) σ))
abbrev rm_House_many : Room := { frames := 6, cells := 0, slots := 0, locals := 145 }
def wp_House_many (cf : Cf) (tv : Nat → Int) (x1 : Int) (x2 : Int) (Q : Int → St → Prop) (σ : St) : Prop :=
  wp_House_keyOf cf tv x1 x2 (fun r_18 σ_19 => rJ r_18 → RK σ_19 →
  wp_Index_seek cf tv 0 r_18 0 (fun r_20 σ_21 => rZ r_20 → RK σ_21 →
  lQ3 (wp_House_many_L23 cf tv x1 x2 Q) r_18 0 r_20 σ_21) σ_19) σ
/-! House.linksOf(II)I -/
def wp_House_linksOf_L5 (cf : Cf) (tv : Nat → Int) (x1 : Int) (x2 : Int) (Q : Int → St → Prop) (K5 : Int → Int → St → Prop) (y3 : Int) (y4 : Int) (σ : St) : Prop :=
  (x2 ≤ y4 →
    Q y3 σ) ∧
  (¬ x2 ≤ y4 →
    ((0 : Int) ≤ y4 ∧ y4 < 768) ∧
    ∀ y3_5, y3_5 = w32 (y3 + (if (gA σ 84 0 y4) = x1 then (1 : Int) else (0 : Int))) →
    ∀ y4_6, y4_6 = w32 (y4 + 1) →
    K5 y3_5 y4_6 σ)
abbrev rm_House_linksOf : Room := { frames := 0, cells := 0, slots := 0, locals := 0 }
def wp_House_linksOf (cf : Cf) (tv : Nat → Int) (x1 : Int) (x2 : Int) (Q : Int → St → Prop) (σ : St) : Prop :=
  lQ2 (wp_House_linksOf_L5 cf tv x1 x2 Q) 0 0 σ
/-! House.goesTogether()Z -/
def wp_House_goesTogether_b273 (cf : Cf) (tv : Nat → Int) (Q : Int → St → Prop) (K278 : Int → Int → Int → Int → Int → Int → Int → Int → St → Prop) (y1 : Int) (y2 : Int) (y3 : Int) (y4 : Int) (y7 : Int) (y9 : Int) (t0 : Int) (σ : St) : Prop :=
  K278 y1 y2 y3 y4 y7 y9 1 t0 σ
def wp_House_goesTogether_b277 (cf : Cf) (tv : Nat → Int) (Q : Int → St → Prop) (K278 : Int → Int → Int → Int → Int → Int → Int → Int → St → Prop) (y1 : Int) (y2 : Int) (y3 : Int) (y4 : Int) (y7 : Int) (y9 : Int) (t0 : Int) (σ : St) : Prop :=
  K278 y1 y2 y3 y4 y7 y9 0 t0 σ
def wp_House_goesTogether_b278 (cf : Cf) (tv : Nat → Int) (Q : Int → St → Prop) (K536 : Int → Int → Int → Int → Int → Int → Int → St → Prop) (y1 : Int) (y2 : Int) (y3 : Int) (y4 : Int) (y7 : Int) (y9 : Int) (t0 : Int) (t1 : Int) (σ : St) : Prop :=
  ∀ y5_233, y5_233 = iand t1 t0 →
  K536 y1 y2 y3 y4 y5_233 y7 y9 σ
def wp_House_goesTogether_b561 (cf : Cf) (tv : Nat → Int) (Q : Int → St → Prop) (K30 : Int → Int → Int → Int → Int → Int → St → Prop) (y1 : Int) (y2 : Int) (y3 : Int) (y4 : Int) (y5 : Int) (y9 : Int) (t0 : Int) (σ : St) : Prop :=
  wp_Index_seek cf tv 0 t0 (w64 (y9 + 1)) (fun r_234 σ_235 => rZ r_234 → RK σ_235 →
  K30 y1 y2 y3 y4 y5 r_234 σ_235) σ
def wp_House_goesTogether_b218 (cf : Cf) (tv : Nat → Int) (Q : Int → St → Prop) (K223 : Int → Int → Int → Int → Int → Int → Int → Int → Int → St → Prop) (y1 : Int) (y2 : Int) (y3 : Int) (y4 : Int) (y7 : Int) (y9 : Int) (y11 : Int) (t0 : Int) (σ : St) : Prop :=
  K223 y1 y2 y3 y4 y7 y9 y11 1 t0 σ
def wp_House_goesTogether_b222 (cf : Cf) (tv : Nat → Int) (Q : Int → St → Prop) (K223 : Int → Int → Int → Int → Int → Int → Int → Int → Int → St → Prop) (y1 : Int) (y2 : Int) (y3 : Int) (y4 : Int) (y7 : Int) (y9 : Int) (y11 : Int) (t0 : Int) (σ : St) : Prop :=
  K223 y1 y2 y3 y4 y7 y9 y11 0 t0 σ
def wp_House_goesTogether_b223 (cf : Cf) (tv : Nat → Int) (Q : Int → St → Prop) (K536 : Int → Int → Int → Int → Int → Int → Int → St → Prop) (y1 : Int) (y2 : Int) (y3 : Int) (y4 : Int) (y7 : Int) (y9 : Int) (y11 : Int) (t0 : Int) (t1 : Int) (σ : St) : Prop :=
  ∀ y5_236, y5_236 = iand t1 t0 →
  wp_House_many cf tv y11 3 (fun r_237 σ_238 => rI r_237 → RK σ_238 →
  (¬ r_237 = (gI σ_238 645 0) →
    wp_House_goesTogether_b277 cf tv Q (wp_House_goesTogether_b278 cf tv Q K536) y1 y2 y3 y4 y7 y9 y5_236 σ_238) ∧
  (r_237 = (gI σ_238 645 0) →
    (¬ (gI σ_238 641 0) = 3 →
      wp_House_goesTogether_b273 cf tv Q (wp_House_goesTogether_b278 cf tv Q K536) y1 y2 y3 y4 y7 y9 y5_236 σ_238) ∧
    ((gI σ_238 641 0) = 3 →
      wp_House_piece cf tv y11 0 (fun r_239 σ_240 => rI r_239 → RK σ_240 →
      (¬ r_239 = (gI σ_240 643 0) →
        wp_House_goesTogether_b277 cf tv Q (wp_House_goesTogether_b278 cf tv Q K536) y1 y2 y3 y4 y7 y9 y5_236 σ_240) ∧
      (r_239 = (gI σ_240 643 0) →
        wp_House_goesTogether_b273 cf tv Q (wp_House_goesTogether_b278 cf tv Q K536) y1 y2 y3 y4 y7 y9 y5_236 σ_240)) σ_238))) σ
def wp_House_goesTogether_b636 (cf : Cf) (tv : Nat → Int) (Q : Int → St → Prop) (K637 : Int → Int → Int → Int → Int → Int → St → Prop) (y1 : Int) (y2 : Int) (y3 : Int) (y7 : Int) (t0 : Int) (σ : St) : Prop :=
  K637 y1 y2 y3 y7 0 t0 σ
def wp_House_goesTogether_b637 (cf : Cf) (tv : Nat → Int) (Q : Int → St → Prop) (K576 : Int → Int → Int → Int → Int → St → Prop) (y1 : Int) (y2 : Int) (y3 : Int) (y7 : Int) (t0 : Int) (t1 : Int) (σ : St) : Prop :=
  ∀ y5_241, y5_241 = iand t1 t0 →
  ∀ y7_242, y7_242 = w32 (y7 + 1) →
  K576 y1 y2 y3 y5_241 y7_242 σ
def wp_House_goesTogether_b140 (cf : Cf) (tv : Nat → Int) (Q : Int → St → Prop) (K141 : Int → Int → Int → Int → Int → Int → Int → Int → Int → St → Prop) (y1 : Int) (y2 : Int) (y4 : Int) (y5 : Int) (y7 : Int) (y9 : Int) (y11 : Int) (t0 : Int) (σ : St) : Prop :=
  K141 y1 y2 y4 y5 y7 y9 y11 0 t0 σ
def wp_House_goesTogether_b141 (cf : Cf) (tv : Nat → Int) (Q : Int → St → Prop) (K536 : Int → Int → Int → Int → Int → Int → Int → St → Prop) (y1 : Int) (y2 : Int) (y4 : Int) (y5 : Int) (y7 : Int) (y9 : Int) (y11 : Int) (t0 : Int) (t1 : Int) (σ : St) : Prop :=
  ∀ y3_243, y3_243 = w32 (t1 + t0) →
  (y5 = 0 →
    wp_House_goesTogether_b222 cf tv Q (wp_House_goesTogether_b223 cf tv Q K536) y1 y2 y3_243 y4 y7 y9 y11 y5 σ) ∧
  (¬ y5 = 0 →
    (¬ (gI σ 641 0) = 1 →
      wp_House_linksOf cf tv y11 y4 (fun r_244 σ_245 => rI r_244 → RK σ_245 →
      (¬ r_244 = (gI σ_245 642 0) →
        wp_House_goesTogether_b222 cf tv Q (wp_House_goesTogether_b223 cf tv Q K536) y1 y2 y3_243 y4 y7 y9 y11 y5 σ_245) ∧
      (r_244 = (gI σ_245 642 0) →
        (0 < (gI σ_245 642 0) →
          wp_House_goesTogether_b218 cf tv Q (wp_House_goesTogether_b223 cf tv Q K536) y1 y2 y3_243 y4 y7 y9 y11 y5 σ_245) ∧
        (¬ 0 < (gI σ_245 642 0) →
          wp_House_isOpen cf tv y11 (fun r_246 σ_247 => rZ r_246 → RK σ_247 →
          (r_246 = 0 →
            wp_House_goesTogether_b222 cf tv Q (wp_House_goesTogether_b223 cf tv Q K536) y1 y2 y3_243 y4 y7 y9 y11 y5 σ_247) ∧
          (¬ r_246 = 0 →
            wp_House_goesTogether_b218 cf tv Q (wp_House_goesTogether_b223 cf tv Q K536) y1 y2 y3_243 y4 y7 y9 y11 y5 σ_247)) σ_245))) σ) ∧
    ((gI σ 641 0) = 1 →
      wp_House_many cf tv y11 2 (fun r_248 σ_249 => rI r_248 → RK σ_249 →
      (¬ r_248 = (gI σ_249 644 0) →
        wp_House_goesTogether_b222 cf tv Q (wp_House_goesTogether_b223 cf tv Q K536) y1 y2 y3_243 y4 y7 y9 y11 y5 σ_249) ∧
      (r_248 = (gI σ_249 644 0) →
        wp_House_goesTogether_b218 cf tv Q (wp_House_goesTogether_b223 cf tv Q K536) y1 y2 y3_243 y4 y7 y9 y11 y5 σ_249)) σ))
def wp_House_goesTogether_b532 (cf : Cf) (tv : Nat → Int) (Q : Int → St → Prop) (K533 : Int → Int → Int → Int → Int → Int → Int → Int → St → Prop) (y1 : Int) (y2 : Int) (y3 : Int) (y4 : Int) (y7 : Int) (y9 : Int) (t0 : Int) (σ : St) : Prop :=
  K533 y1 y2 y3 y4 y7 y9 0 t0 σ
def wp_House_goesTogether_b533 (cf : Cf) (tv : Nat → Int) (Q : Int → St → Prop) (K536 : Int → Int → Int → Int → Int → Int → Int → St → Prop) (y1 : Int) (y2 : Int) (y3 : Int) (y4 : Int) (y7 : Int) (y9 : Int) (t0 : Int) (t1 : Int) (σ : St) : Prop :=
  ∀ y5_250, y5_250 = iand t1 t0 →
  K536 y1 y2 y3 y4 y5_250 y7 y9 σ
def wp_House_goesTogether_b536 (cf : Cf) (tv : Nat → Int) (Q : Int → St → Prop) (K30 : Int → Int → Int → Int → Int → Int → St → Prop) (y1 : Int) (y2 : Int) (y3 : Int) (y4 : Int) (y5 : Int) (y7 : Int) (y9 : Int) (σ : St) : Prop :=
  (¬ y9 = (-1) →
    wp_House_goesTogether_b561 cf tv Q K30 y1 y2 y3 y4 y5 y9 y7 σ) ∧
  (y9 = (-1) →
    wp_House_goesTogether_b561 cf tv Q K30 y1 y2 y3 y4 y5 y9 (w64 (y7 + 1)) σ)
def wp_House_goesTogether_L576 (cf : Cf) (tv : Nat → Int) (Q : Int → St → Prop) (K576 : Int → Int → Int → Int → Int → St → Prop) (y1 : Int) (y2 : Int) (y3 : Int) (y5 : Int) (y7 : Int) (σ : St) : Prop :=
  ((gI σ 218 0) ≤ y7 →
    (y5 = 0 →
      Q 0 σ) ∧
    (¬ y5 = 0 →
      (¬ y1 = (gI σ 71 0) →
        Q 0 σ) ∧
      (y1 = (gI σ 71 0) →
        (¬ y2 = (gI σ 72 0) →
          Q 0 σ) ∧
        (y2 = (gI σ 72 0) →
          (¬ y3 = (gI σ 218 0) →
            Q 0 σ) ∧
          (y3 = (gI σ 218 0) →
            ((cap cf) < (gI σ 71 0) →
              Q 0 σ) ∧
            (¬ (cap cf) < (gI σ 71 0) →
              Q 1 σ)))))) ∧
  (¬ (gI σ 218 0) ≤ y7 →
    ((0 : Int) ≤ y7 ∧ y7 < 16) ∧
    wp_House_read cf tv (gA σ 217 0 y7) 0 (fun r_251 σ_252 => rZ r_251 → RK σ_252 →
    (r_251 = 0 →
      wp_House_goesTogether_b636 cf tv Q (wp_House_goesTogether_b637 cf tv Q K576) y1 y2 y3 y7 y5 σ_252) ∧
    (¬ r_251 = 0 →
      (¬ (gI σ_252 641 0) = 2 →
        wp_House_goesTogether_b636 cf tv Q (wp_House_goesTogether_b637 cf tv Q K576) y1 y2 y3 y7 y5 σ_252) ∧
      ((gI σ_252 641 0) = 2 →
        (¬ (gI σ_252 642 0) = 0 →
          wp_House_goesTogether_b636 cf tv Q (wp_House_goesTogether_b637 cf tv Q K576) y1 y2 y3 y7 y5 σ_252) ∧
        ((gI σ_252 642 0) = 0 →
          wp_House_goesTogether_b637 cf tv Q K576 y1 y2 y3 y7 1 y5 σ_252)))) σ)
def wp_House_goesTogether_b343 (cf : Cf) (tv : Nat → Int) (Q : Int → St → Prop) (K344 : Int → Int → Int → Int → Int → Int → Int → Int → St → Prop) (y1 : Int) (y2 : Int) (y3 : Int) (y4 : Int) (y7 : Int) (y9 : Int) (t0 : Int) (σ : St) : Prop :=
  K344 y1 y2 y3 y4 y7 y9 0 t0 σ
def wp_House_goesTogether_b344 (cf : Cf) (tv : Nat → Int) (Q : Int → St → Prop) (K536 : Int → Int → Int → Int → Int → Int → Int → St → Prop) (y1 : Int) (y2 : Int) (y3 : Int) (y4 : Int) (y7 : Int) (y9 : Int) (t0 : Int) (t1 : Int) (σ : St) : Prop :=
  ∀ y5_253, y5_253 = iand t1 t0 →
  K536 y1 y2 y3 y4 y5_253 y7 y9 σ
def wp_House_goesTogether_b495 (cf : Cf) (tv : Nat → Int) (Q : Int → St → Prop) (K496 : Int → Int → Int → Int → Int → Int → Int → Int → St → Prop) (y1 : Int) (y2 : Int) (y3 : Int) (y4 : Int) (y7 : Int) (y9 : Int) (t0 : Int) (σ : St) : Prop :=
  K496 y1 y2 y3 y4 y7 y9 0 t0 σ
def wp_House_goesTogether_b496 (cf : Cf) (tv : Nat → Int) (Q : Int → St → Prop) (K536 : Int → Int → Int → Int → Int → Int → Int → St → Prop) (y1 : Int) (y2 : Int) (y3 : Int) (y4 : Int) (y7 : Int) (y9 : Int) (t0 : Int) (t1 : Int) (σ : St) : Prop :=
  ∀ y5_254, y5_254 = iand t1 t0 →
  K536 y1 y2 y3 y4 y5_254 y7 y9 σ
def wp_House_goesTogether_L30 (cf : Cf) (tv : Nat → Int) (Q : Int → St → Prop) (K30 : Int → Int → Int → Int → Int → Int → St → Prop) (y1 : Int) (y2 : Int) (y3 : Int) (y4 : Int) (y5 : Int) (y6 : Int) (σ : St) : Prop :=
  (y6 = 0 →
    lQ5 (wp_House_goesTogether_L576 cf tv Q) y1 y2 y3 y5 0 σ) ∧
  (¬ y6 = 0 →
    ∀ y7_255, y7_255 = gI σ 391 0 →
    ∀ y9_256, y9_256 = gI σ 392 0 →
    ∀ y11_257, y11_257 = w32 (jdl y7_255 4) →
    ∀ y1_258, y1_258 = w32 (y1 + (w32 ((gI σ 395 0) + 192))) →
    (¬ (jrl y7_255 4) = 0 →
      (¬ (jrl y7_255 4) = 1 →
        (¬ (jrl y7_255 4) = 2 →
          wp_House_read cf tv y11_257 0 (fun r_259 σ_260 => rZ r_259 → RK σ_260 →
          (r_259 = 0 →
            wp_House_goesTogether_b532 cf tv Q (wp_House_goesTogether_b533 cf tv Q (wp_House_goesTogether_b536 cf tv Q K30)) y1_258 y2 y3 y4 y7_255 y9_256 y5 σ_260) ∧
          (¬ r_259 = 0 →
            wp_Long_reverseBytes cf tv y9_256 (fun r_261 σ_262 => rJ r_261 → RK σ_262 →
            wp_House_isName cf tv r_261 (fun r_263 σ_264 => rZ r_263 → RK σ_264 →
            (r_263 = 0 →
              wp_House_goesTogether_b532 cf tv Q (wp_House_goesTogether_b533 cf tv Q (wp_House_goesTogether_b536 cf tv Q K30)) y1_258 y2 y3 y4 y7_255 y9_256 y5 σ_264) ∧
            (¬ r_263 = 0 →
              wp_House_goesTogether_b533 cf tv Q (wp_House_goesTogether_b536 cf tv Q K30) y1_258 y2 y3 y4 y7_255 y9_256 1 y5 σ_264)) σ_262) σ_260)) σ) ∧
        ((jrl y7_255 4) = 2 →
          wp_Store_read cf tv 0 (gI σ 393 0) (gI σ 394 0) (gI σ 395 0) 0 (fun σ_266 => RK σ_266 →
          wp_Row_getLongAt cf tv 0 8 (fun r_267 σ_268 => rJ r_267 → RK σ_268 →
          wp_House_isName cf tv r_267 (fun r_269 σ_270 => rZ r_269 → RK σ_270 →
          (r_269 = 0 →
            wp_House_goesTogether_b495 cf tv Q (wp_House_goesTogether_b496 cf tv Q (wp_House_goesTogether_b536 cf tv Q K30)) y1_258 y2 y3 y4 y7_255 y9_256 y5 σ_270) ∧
          (¬ r_269 = 0 →
            wp_House_entry cf tv y11_257 r_267 (fun r_271 σ_272 => rI r_271 → RK σ_272 →
            wp_House_read cf tv r_271 0 (fun r_273 σ_274 => rZ r_273 → RK σ_274 →
            (r_273 = 0 →
              wp_House_goesTogether_b495 cf tv Q (wp_House_goesTogether_b496 cf tv Q (wp_House_goesTogether_b536 cf tv Q K30)) y1_258 y2 y3 y4 y7_255 y9_256 y5 σ_274) ∧
            (¬ r_273 = 0 →
              wp_House_hash cf tv r_267 (fun r_275 σ_276 => rJ r_275 → RK σ_276 →
              (¬ (w64 (r_275 + (gI σ_276 91 0))) = y9_256 →
                wp_House_goesTogether_b495 cf tv Q (wp_House_goesTogether_b496 cf tv Q (wp_House_goesTogether_b536 cf tv Q K30)) y1_258 y2 y3 y4 y7_255 y9_256 y5 σ_276) ∧
              ((w64 (r_275 + (gI σ_276 91 0))) = y9_256 →
                wp_House_read cf tv y11_257 1 (fun r_277 σ_278 => rZ r_277 → RK σ_278 →
                (r_277 = 0 →
                  wp_House_goesTogether_b495 cf tv Q (wp_House_goesTogether_b496 cf tv Q (wp_House_goesTogether_b536 cf tv Q K30)) y1_258 y2 y3 y4 y7_255 y9_256 y5 σ_278) ∧
                (¬ r_277 = 0 →
                  (¬ (gI σ_278 641 1) = 1 →
                    wp_House_goesTogether_b495 cf tv Q (wp_House_goesTogether_b496 cf tv Q (wp_House_goesTogether_b536 cf tv Q K30)) y1_258 y2 y3 y4 y7_255 y9_256 y5 σ_278) ∧
                  ((gI σ_278 641 1) = 1 →
                    wp_House_goesTogether_b496 cf tv Q (wp_House_goesTogether_b536 cf tv Q K30) y1_258 y2 y3 y4 y7_255 y9_256 1 y5 σ_278))) σ_276)) σ_274)) σ_272) σ_270)) σ_268) σ_266) σ)) ∧
      ((jrl y7_255 4) = 1 →
        wp_House_read cf tv y11_257 0 (fun r_279 σ_280 => rZ r_279 → RK σ_280 →
        (r_279 = 0 →
          wp_House_goesTogether_b343 cf tv Q (wp_House_goesTogether_b344 cf tv Q (wp_House_goesTogether_b536 cf tv Q K30)) y1_258 y2 y3 y4 y7_255 y9_256 y5 σ_280) ∧
        (¬ r_279 = 0 →
          wp_House_piece cf tv y11_257 (w32 y9_256) (fun r_281 σ_282 => rI r_281 → RK σ_282 →
          ((gI σ_282 643 0) < (w64 ((w64 (y9_256 * 64)) + r_281)) →
            wp_House_goesTogether_b343 cf tv Q (wp_House_goesTogether_b344 cf tv Q (wp_House_goesTogether_b536 cf tv Q K30)) y1_258 y2 y3 y4 y7_255 y9_256 y5 σ_282) ∧
          (¬ (gI σ_282 643 0) < (w64 ((w64 (y9_256 * 64)) + r_281)) →
            wp_House_goesTogether_b344 cf tv Q (wp_House_goesTogether_b536 cf tv Q K30) y1_258 y2 y3 y4 y7_255 y9_256 1 y5 σ_282)) σ_280)) σ)) ∧
    ((jrl y7_255 4) = 0 →
      ∀ y2_283, y2_283 = w32 (y2 + 1) →
      wp_House_read cf tv y11_257 0 (fun r_284 σ_285 => rZ r_284 → RK σ_285 →
      ∀ y5_286, y5_286 = iand y5 r_284 →
      (¬ (gI σ_285 641 0) = 2 →
        wp_House_goesTogether_b140 cf tv Q (wp_House_goesTogether_b141 cf tv Q (wp_House_goesTogether_b536 cf tv Q K30)) y1_258 y2_283 y4 y5_286 y7_255 y9_256 y11_257 y3 σ_285) ∧
      ((gI σ_285 641 0) = 2 →
        (¬ (gI σ_285 642 0) = 0 →
          wp_House_goesTogether_b140 cf tv Q (wp_House_goesTogether_b141 cf tv Q (wp_House_goesTogether_b536 cf tv Q K30)) y1_258 y2_283 y4 y5_286 y7_255 y9_256 y11_257 y3 σ_285) ∧
        ((gI σ_285 642 0) = 0 →
          wp_House_goesTogether_b141 cf tv Q (wp_House_goesTogether_b536 cf tv Q K30) y1_258 y2_283 y4 y5_286 y7_255 y9_256 y11_257 1 y3 σ_285))) σ))
abbrev rm_House_goesTogether : Room := { frames := 7, cells := 0, slots := 0, locals := 209 }
def wp_House_goesTogether (cf : Cf) (tv : Nat → Int) (Q : Int → St → Prop) (σ : St) : Prop :=
  wp_House_gather cf tv 0 (fun r_287 σ_288 => rI r_287 → RK σ_288 →
  wp_Index_seek cf tv 0 0 0 (fun r_289 σ_290 => rZ r_289 → RK σ_290 →
  lQ6 (wp_House_goesTogether_L30 cf tv Q) 0 0 0 r_287 1 r_289 σ_290) σ_288) σ
/-! House.sound()Z -/
abbrev rm_House_sound : Room := { frames := 25, cells := 0, slots := 0, locals := 646 }
def wp_House_sound (cf : Cf) (tv : Nat → Int) (Q : Int → St → Prop) (σ : St) : Prop :=
  ((gI σ 69 0) = 0 →
    Q 0 σ) ∧
  (¬ (gI σ 69 0) = 0 →
    wp_Store_isSound cf tv 0 67 0 (fun r_9 σ_10 => rZ r_9 → RK σ_10 →
    (r_9 = 0 →
      Q 0 σ_10) ∧
    (¬ r_9 = 0 →
      wp_House_goesTogether cf tv (fun r_11 σ_12 => rZ r_11 → RK σ_12 →
      (¬ r_11 = 0 →
        ((gI σ_12 205 0) ≤ 0 →
          wp_Store_find cf tv 1 (fun σ_14 => RK σ_14 →
          wp_Store_isLike cf tv 0 1 (fun r_15 σ_16 => rZ r_15 → RK σ_16 →
          Q r_15 σ_16) σ_14) σ_12) ∧
        (¬ (gI σ_12 205 0) ≤ 0 →
          Q 1 σ_12)) ∧
      (r_11 = 0 →
        Q 0 σ_12)) σ_10)) σ)
