/-! the reference's searches (printed by gen/mk_p1.py) -/
def SR (p : Int → Prop) (b y m : Int) : Prop := (m = -1 ∧ ∀ i, 0 ≤ i → b + i < y → ¬ p (b + i)) ∨ ∃ i, 0 ≤ i ∧ b + i < y ∧ m = b + i ∧ p (b + i)
theorem SR.s0 {p : Int → Prop} {b : Int} : SR p b b (-1) := Or.inl ⟨rfl, fun i i0 i1 => by omega⟩
theorem SR.no {p : Int → Prop} {b y m : Int} (h : SR p b y m) (w : ¬ p y) : SR p b (y + 1) m := by
  rcases h with ⟨a, h⟩ | ⟨i, a, h, c, d⟩
  · refine Or.inl ⟨a, fun i i0 i1 => ?_⟩
    by_cases e : b + i = y
    · rw [e]; exact w
    · exact h i i0 (by omega)
  · exact Or.inr ⟨i, a, by omega, c, d⟩
theorem SR.yes {p : Int → Prop} {b y : Int} (h : b ≤ y) (w : p y) : SR p b (y + 1) y := Or.inr ⟨y - b, by omega, by omega, by omega, by rw [show b + (y - b) = y by omega]; exact w⟩
theorem TR.mn {σ : St} {t nx : Int} {N E A : List (Int × Int × Int)} {P : List (Int × Int × Int × (Int → Int))} (h : TR σ t N E A P nx) {r : Int × Int × Int} : r ∈ N ↔ ∃ i, 0 ≤ i ∧ i < gA σ 713 0 t ∧ mnR σ t i = r := by
  rw [← h.2.1.mem_iff]
  unfold mnd
  rw [tab_mem]
  have := h.1.1.1
  exact ⟨fun ⟨i, a, b, c⟩ => ⟨i, a, by omega, c⟩, fun ⟨i, a, b, c⟩ => ⟨i, a, by omega, c⟩⟩
theorem TR.me {σ : St} {t nx : Int} {N E A : List (Int × Int × Int)} {P : List (Int × Int × Int × (Int → Int))} (h : TR σ t N E A P nx) {r : Int × Int × Int} : r ∈ E ↔ ∃ i, 0 ≤ i ∧ i < gA σ 717 0 t ∧ meR σ t i = r := by
  rw [← h.2.2.1.mem_iff]
  unfold men
  rw [tab_mem]
  have := h.1.1.2
  exact ⟨fun ⟨i, a, b, c⟩ => ⟨i, a, by omega, c⟩, fun ⟨i, a, b, c⟩ => ⟨i, a, by omega, c⟩⟩
theorem TR.ma {σ : St} {t nx : Int} {N E A : List (Int × Int × Int)} {P : List (Int × Int × Int × (Int → Int))} (h : TR σ t N E A P nx) {r : Int × Int × Int} : r ∈ A ↔ ∃ i, 0 ≤ i ∧ i < gA σ 721 0 t ∧ maR σ t i = r := by
  rw [← h.2.2.2.1.mem_iff]
  unfold mat
  rw [tab_mem]
  have := h.1.2.1
  exact ⟨fun ⟨i, a, b, c⟩ => ⟨i, a, by omega, c⟩, fun ⟨i, a, b, c⟩ => ⟨i, a, by omega, c⟩⟩
theorem TR.mp {σ : St} {t nx : Int} {N E A : List (Int × Int × Int)} {P : List (Int × Int × Int × (Int → Int))} (h : TR σ t N E A P nx) {r : Int × Int × Int × (Int → Int)} : r ∈ P ↔ ∃ i, 0 ≤ i ∧ i < gA σ 725 0 t ∧ mpR σ t i = r := by
  rw [← h.2.2.2.2.1.mem_iff]
  unfold mpc
  rw [tab_mem]
  have := h.1.2.2
  exact ⟨fun ⟨i, a, b, c⟩ => ⟨i, a, by omega, c⟩, fun ⟨i, a, b, c⟩ => ⟨i, a, by omega, c⟩⟩
theorem sp_MnodeOf {tv : Nat → Int} {cf : Cf} {σ : St} {t nx : Int} {N E A : List (Int × Int × Int)} {P : List (Int × Int × Int × (Int → Int))} {x : Int} {Q : Int → St → Prop} (hrk : RK σ) (ht : t = 0 ∨ t = 1) (hT : TR σ t N E A P nx) (hF : FT N E A P)
    (h0 : (∀ r, r ∈ N → r.1 ≠ x) → Q (-1) σ) (h1 : ∀ i, 0 ≤ i → i < gA σ 713 0 t → gA σ 714 0 (700 * t + i) = x → Q (700 * t + i) σ) : wp_Model_nodeOf cf tv t x Q σ := by
  have nn := hT.n
  obtain ⟨⟨f1, f2⟩, f3, f4⟩ := hF
  have n0 := hT.1.1.1
  unfold wp_Model_nodeOf
  rw [w32_id (x := 700 * t) (by unfold rI; omega)]
  intro y0 e0
  subst e0
  refine lQ2_rule (fun m y τ => τ = σ ∧ (700 * t ≤ y ∧ y ≤ 700 * t + gA σ 713 0 t) ∧ SR (fun i => gA σ 714 0 i = x) (700 * t) y m) (fun _ y _ => (700 * t + gA σ 713 0 t - y).toNat) ?_ (-1) _ σ ⟨rfl, by omega, SR.s0⟩
  intro K m y τ hI hK
  obtain ⟨et, hy, hm⟩ := hI
  subst et
  unfold wp_Model_nodeOf_L9
  rw [w32_id (x := 700 * t) (by unfold rI; omega), w32_id (x := 700 * t + gA τ 713 0 t) (by unfold rI; omega)]
  have go : ∀ m', SR (fun i => gA τ 714 0 i = x) (700 * t) (y + 1) m' → y < 700 * t + gA τ 713 0 t → wp_Model_nodeOf_b43 cf tv t x Q K y m' τ := by
    intro m' hm' hl
    unfold wp_Model_nodeOf_b43
    intro y2 e2
    rw [w32_id (by unfold rI; omega)] at e2
    rw [e2]
    exact hK m' (y + 1) τ ⟨rfl, by omega, hm'⟩ (by omega)
  refine ⟨by omega, fun q => ?_, fun q => ⟨by omega, fun w => go m (hm.no w) (by omega), fun w => go y (SR.yes hy.1 w) (by omega)⟩⟩
  rcases hm with ⟨a, b⟩ | ⟨i, a, b, c, d⟩
  · rw [a]
    refine h0 (fun r hr e => ?_)
    obtain ⟨i, i0, i1, i2⟩ := hT.mn.mp hr
    refine b i i0 (by omega) ?_
    show gA τ 714 0 (700 * t + i) = x
    rw [← e, ← i2]; rfl
  · rw [c]; exact h1 i a (by omega) d

theorem sp_MentryOf {tv : Nat → Int} {cf : Cf} {σ : St} {t nx : Int} {N E A : List (Int × Int × Int)} {P : List (Int × Int × Int × (Int → Int))} {x z : Int} {Q : Int → St → Prop} (hrk : RK σ) (ht : t = 0 ∨ t = 1) (hT : TR σ t N E A P nx) (hF : FT N E A P)
    (h0 : (∀ r, r ∈ E → ¬ (r.1 = x ∧ r.2.1 = z)) → Q (-1) σ) (h1 : ∀ i, 0 ≤ i → i < gA σ 717 0 t → gA σ 718 0 (700 * t + i) = x → gA σ 719 0 (700 * t + i) = z → Q (700 * t + i) σ) : wp_Model_entryOf cf tv t x z Q σ := by
  have nn := hT.n
  obtain ⟨⟨f1, f2⟩, f3, f4⟩ := hF
  have n0 := hT.1
  unfold wp_Model_entryOf
  rw [w32_id (x := 700 * t) (by unfold rI; omega)]
  intro y0 e0
  subst e0
  refine lQ2_rule (fun m y τ => τ = σ ∧ (700 * t ≤ y ∧ y ≤ 700 * t + gA σ 717 0 t) ∧ SR (fun i => gA σ 718 0 i = x ∧ gA σ 719 0 i = z) (700 * t) y m) (fun _ y _ => (700 * t + gA σ 717 0 t - y).toNat) ?_ (-1) _ σ ⟨rfl, by omega, SR.s0⟩
  intro K m y τ hI hK
  obtain ⟨et, hy, hm⟩ := hI
  subst et
  unfold wp_Model_entryOf_L10
  rw [w32_id (x := 700 * t) (by unfold rI; omega), w32_id (x := 700 * t + gA τ 717 0 t) (by unfold rI; omega)]
  have go : ∀ m', SR (fun i => gA τ 718 0 i = x ∧ gA τ 719 0 i = z) (700 * t) (y + 1) m' → y < 700 * t + gA τ 717 0 t → wp_Model_entryOf_b57 cf tv t x z Q K y m' τ := by
    intro m' hm' hl
    unfold wp_Model_entryOf_b57
    intro y2 e2
    rw [w32_id (by unfold rI; omega)] at e2
    rw [e2]
    exact hK m' (y + 1) τ ⟨rfl, by omega, hm'⟩ (by omega)
  have no : ¬ (gA τ 718 0 y = x ∧ gA τ 719 0 y = z) → y < 700 * t + gA τ 717 0 t → wp_Model_entryOf_b55 cf tv t x z Q (wp_Model_entryOf_b57 cf tv t x z Q K) m y τ := by
    intro w hl
    unfold wp_Model_entryOf_b55
    exact go m (hm.no w) hl
  refine ⟨by omega, fun q => ?_, fun q => ⟨by omega, fun w => no (fun u => w u.1) (by omega), fun w => ⟨by omega, fun v => no (fun u => v u.2) (by omega), fun v => go y (SR.yes hy.1 ⟨w, v⟩) (by omega)⟩⟩⟩
  rcases hm with ⟨a, b⟩ | ⟨i, a, b, c, d⟩
  · rw [a]
    refine h0 (fun r hr e => ?_)
    obtain ⟨i, i0, i1, i2⟩ := hT.me.mp hr
    refine b i i0 (by omega) ?_
    rw [← e.1, ← e.2, ← i2]
    exact ⟨rfl, rfl⟩
  · rw [c]; exact h1 i a (by omega) d.1 d.2

theorem sp_MattributeOf {tv : Nat → Int} {cf : Cf} {σ : St} {t nx : Int} {N E A : List (Int × Int × Int)} {P : List (Int × Int × Int × (Int → Int))} {x z : Int} {Q : Int → St → Prop} (hrk : RK σ) (ht : t = 0 ∨ t = 1) (hT : TR σ t N E A P nx) (hF : FT N E A P)
    (h0 : (∀ r, r ∈ A → ¬ (r.1 = x ∧ r.2.1 = z)) → Q (-1) σ) (h1 : ∀ i, 0 ≤ i → i < gA σ 721 0 t → gA σ 722 0 (700 * t + i) = x → gA σ 723 0 (700 * t + i) = z → Q (700 * t + i) σ) : wp_Model_attributeOf cf tv t x z Q σ := by
  have nn := hT.n
  obtain ⟨⟨f1, f2⟩, f3, f4⟩ := hF
  have n0 := hT.1
  unfold wp_Model_attributeOf
  rw [w32_id (x := 700 * t) (by unfold rI; omega)]
  intro y0 e0
  subst e0
  refine lQ2_rule (fun m y τ => τ = σ ∧ (700 * t ≤ y ∧ y ≤ 700 * t + gA σ 721 0 t) ∧ SR (fun i => gA σ 722 0 i = x ∧ gA σ 723 0 i = z) (700 * t) y m) (fun _ y _ => (700 * t + gA σ 721 0 t - y).toNat) ?_ (-1) _ σ ⟨rfl, by omega, SR.s0⟩
  intro K m y τ hI hK
  obtain ⟨et, hy, hm⟩ := hI
  subst et
  unfold wp_Model_attributeOf_L10
  rw [w32_id (x := 700 * t) (by unfold rI; omega), w32_id (x := 700 * t + gA τ 721 0 t) (by unfold rI; omega)]
  have go : ∀ m', SR (fun i => gA τ 722 0 i = x ∧ gA τ 723 0 i = z) (700 * t) (y + 1) m' → y < 700 * t + gA τ 721 0 t → wp_Model_attributeOf_b57 cf tv t x z Q K y m' τ := by
    intro m' hm' hl
    unfold wp_Model_attributeOf_b57
    intro y2 e2
    rw [w32_id (by unfold rI; omega)] at e2
    rw [e2]
    exact hK m' (y + 1) τ ⟨rfl, by omega, hm'⟩ (by omega)
  have no : ¬ (gA τ 722 0 y = x ∧ gA τ 723 0 y = z) → y < 700 * t + gA τ 721 0 t → wp_Model_attributeOf_b55 cf tv t x z Q (wp_Model_attributeOf_b57 cf tv t x z Q K) m y τ := by
    intro w hl
    unfold wp_Model_attributeOf_b55
    exact go m (hm.no w) hl
  refine ⟨by omega, fun q => ?_, fun q => ⟨by omega, fun w => no (fun u => w u.1) (by omega), fun w => ⟨by omega, fun v => no (fun u => v u.2) (by omega), fun v => go y (SR.yes hy.1 ⟨w, v⟩) (by omega)⟩⟩⟩
  rcases hm with ⟨a, b⟩ | ⟨i, a, b, c, d⟩
  · rw [a]
    refine h0 (fun r hr e => ?_)
    obtain ⟨i, i0, i1, i2⟩ := hT.ma.mp hr
    refine b i i0 (by omega) ?_
    rw [← e.1, ← e.2, ← i2]
    exact ⟨rfl, rfl⟩
  · rw [c]; exact h1 i a (by omega) d.1 d.2

theorem sp_MpieceOf {tv : Nat → Int} {cf : Cf} {σ : St} {t nx : Int} {N E A : List (Int × Int × Int)} {P : List (Int × Int × Int × (Int → Int))} {x z : Int} {Q : Int → St → Prop} (hrk : RK σ) (ht : t = 0 ∨ t = 1) (hT : TR σ t N E A P nx) (hF : FT N E A P)
    (h0 : (∀ r, r ∈ P → ¬ (r.1 = x ∧ r.2.1 = z)) → Q (-1) σ) (h1 : ∀ i, 0 ≤ i → i < gA σ 725 0 t → gA σ 726 0 (720 * t + i) = x → gA σ 727 0 (720 * t + i) = z → Q (720 * t + i) σ) : wp_Model_pieceOf cf tv t x z Q σ := by
  have nn := hT.n
  obtain ⟨⟨f1, f2⟩, f3, f4⟩ := hF
  have n0 := hT.1
  unfold wp_Model_pieceOf
  rw [w32_id (x := 720 * t) (by unfold rI; omega)]
  intro y0 e0
  subst e0
  refine lQ2_rule (fun m y τ => τ = σ ∧ (720 * t ≤ y ∧ y ≤ 720 * t + gA σ 725 0 t) ∧ SR (fun i => gA σ 726 0 i = x ∧ gA σ 727 0 i = z) (720 * t) y m) (fun _ y _ => (720 * t + gA σ 725 0 t - y).toNat) ?_ (-1) _ σ ⟨rfl, by omega, SR.s0⟩
  intro K m y τ hI hK
  obtain ⟨et, hy, hm⟩ := hI
  subst et
  unfold wp_Model_pieceOf_L10
  rw [w32_id (x := 720 * t) (by unfold rI; omega), w32_id (x := 720 * t + gA τ 725 0 t) (by unfold rI; omega)]
  have go : ∀ m', SR (fun i => gA τ 726 0 i = x ∧ gA τ 727 0 i = z) (720 * t) (y + 1) m' → y < 720 * t + gA τ 725 0 t → wp_Model_pieceOf_b56 cf tv t x z Q K y m' τ := by
    intro m' hm' hl
    unfold wp_Model_pieceOf_b56
    intro y2 e2
    rw [w32_id (by unfold rI; omega)] at e2
    rw [e2]
    exact hK m' (y + 1) τ ⟨rfl, by omega, hm'⟩ (by omega)
  have no : ¬ (gA τ 726 0 y = x ∧ gA τ 727 0 y = z) → y < 720 * t + gA τ 725 0 t → wp_Model_pieceOf_b54 cf tv t x z Q (wp_Model_pieceOf_b56 cf tv t x z Q K) m y τ := by
    intro w hl
    unfold wp_Model_pieceOf_b54
    exact go m (hm.no w) hl
  refine ⟨by omega, fun q => ?_, fun q => ⟨by omega, fun w => no (fun u => w u.1) (by omega), fun w => ⟨by omega, fun v => no (fun u => v u.2) (by omega), fun v => go y (SR.yes hy.1 ⟨w, v⟩) (by omega)⟩⟩⟩
  rcases hm with ⟨a, b⟩ | ⟨i, a, b, c, d⟩
  · rw [a]
    refine h0 (fun r hr e => ?_)
    obtain ⟨i, i0, i1, i2⟩ := hT.mp.mp hr
    refine b i i0 (by omega) ?_
    rw [← e.1, ← e.2, ← i2]
    exact ⟨rfl, rfl⟩
  · rw [c]; exact h1 i a (by omega) d.1 d.2

theorem sp_Mask {tv : Nat → Int} {cf : Cf} {σ : St} {t nx : Int} {N E A : List (Int × Int × Int)} {P : List (Int × Int × Int × (Int → Int))} {x : Int} {Q : Int → St → Prop} (hrk : RK σ) (hT : TR σ 0 N E A P nx) (hF : FT N E A P)
    (h0 : (∀ r, r ∈ N → r.1 ≠ x) → Q (-4) σ) (h1 : ∀ s, (x, 1, s) ∈ N → Q 0 σ) (h2 : ∀ k s, (x, k, s) ∈ N → k ≠ 1 → Q (-6) σ) : wp_Model_askDirectory cf tv x Q σ := by
  have nn := hT.n
  have hF' := hF
  obtain ⟨⟨f1, f2⟩, f3, f4⟩ := hF'
  unfold wp_Model_askDirectory
  refine sp_MnodeOf hrk (Or.inl rfl) hT hF (fun q _ _ => ⟨fun w => absurd rfl w, fun _ => h0 q⟩) (fun i i0 i1 i2 _ _ => ⟨fun _ => ⟨by omega, fun w => ?_, fun w => ?_⟩, fun w => by omega⟩)
  · refine h2 (gA σ 715 0 (700 * 0 + i)) (gA σ 716 0 (700 * 0 + i)) (hT.mn.mpr ⟨i, i0, i1, ?_⟩) w
    unfold mnR
    rw [i2]
  · refine h1 (gA σ 716 0 (700 * 0 + i)) (hT.mn.mpr ⟨i, i0, i1, ?_⟩)
    unfold mnR
    rw [i2, w]
