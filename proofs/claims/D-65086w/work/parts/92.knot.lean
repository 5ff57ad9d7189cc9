/-! knots -/
def kap (h l : Int) : Int := h * 18446744073709551616 + l % 18446744073709551616
def en (σ : St) (z k : Int) : Int × Int × Int × Int × Int × Int := (gA σ 578 z k, gA σ 579 z k, gA σ 580 z k, gA σ 581 z k, gA σ 582 z k, gA σ 583 z k)
def kyE (e : Int × Int × Int × Int × Int × Int) : Int := kap e.1 e.2.1
def ky (σ : St) (z k : Int) : Int := kyE (en σ z k)
def be (σ : St) (z k : Int) : Int := (en σ z k).2.2.2.2.2
theorem kap_inj {h l h' l' : Int} (hl : rJ l) (hl' : rJ l') (e : kap h l = kap h' l') : h = h' ∧ l = l' := by
  unfold kap at e; unfold rJ at *; omega
theorem sp_isBefore {tv : Nat → Int} {cf : Cf} {σ : St} {h l h' l' : Int} {Q : Int → St → Prop} (hl : rJ l) (hl' : rJ l') (h0 : kap h' l' ≤ kap h l → Q 0 σ) (h1 : kap h l < kap h' l' → Q 1 σ) : wp_Knot_isBefore cf tv h l h' l' Q σ := by
  have w : ∀ x, rJ x → w64 (x + (-9223372036854775808)) = x % 18446744073709551616 - 9223372036854775808 := fun x hx => by unfold rJ at hx; unfold w64; omega
  unfold wp_Knot_isBefore wp_Long_compareUnsigned wp_Long_compare
  rw [w l hl, w l' hl']
  unfold kap at h0 h1
  refine ⟨fun e => ⟨fun q => ⟨fun _ _ _ _ _ => ⟨fun _ => h0 (by omega), fun z => by omega⟩, fun _ _ _ _ _ => ⟨fun _ => h0 (by omega), fun z => by omega⟩⟩, fun q _ _ _ _ => ⟨fun z => by omega, fun _ => h1 (by omega)⟩⟩, fun e => ⟨fun q => h0 ?_, fun q => h1 ?_⟩⟩
  · omega
  · omega
theorem sp_slot {tv : Nat → Int} {cf : Cf} {σ : St} {z h l : Int} {Q : Int → St → Prop} (hrk : RK σ) (hl : rJ l) (hc : 0 ≤ gI σ 577 z ∧ gI σ 577 z ≤ 9) (hQ : ∀ r, (-1 ≤ r ∧ r < gI σ 577 z) → (∀ k, r < k → k < gI σ 577 z → kap h l < ky σ z k) → (0 ≤ r → ky σ z r ≤ kap h l) → Q r σ) : wp_Knot_slot cf tv z h l Q σ := by
  unfold wp_Knot_slot
  intro y e
  rw [w32_id (by unfold rI; omega)] at e
  rw [e]
  refine lQ1_rule (fun y τ => τ = σ ∧ (-1 ≤ y ∧ y < gI σ 577 z) ∧ ∀ k, y < k → k < gI σ 577 z → kap h l < ky σ z k) (fun y _ => (y + 1).toNat) ?_ _ σ ⟨rfl, by omega, fun k a b => by omega⟩
  intro K y τ hI hK
  obtain ⟨rfl, hy, hk⟩ := hI
  unfold wp_Knot_slot_L8
  refine ⟨fun q => hQ y hy hk (fun z => by omega), fun q => ⟨by omega, by omega, ?_⟩⟩
  refine sp_isBefore hl (hrk.aj _ _ _ (by decide)) (fun g _ _ => ⟨fun _ => hQ y hy hk (fun _ => g), fun z => absurd rfl z⟩) (fun g _ _ => ⟨fun z => by omega, fun _ y' ey => ?_⟩)
  rw [w32_id (by unfold rI; omega)] at ey
  rw [ey]
  refine hK _ _ ⟨rfl, by omega, fun k a b => ?_⟩ (by omega)
  by_cases e : k = y
  · rw [e]; exact g
  · exact hk k (by omega) b
def mKa (z : Int) (f : Nat) (o' : Int) : Prop := (578 ≤ f ∧ f ≤ 583) ∧ o' = z
def mKn (z : Int) (f : Nat) (o' : Int) : Prop := (576 ≤ f ∧ f ≤ 587) ∧ o' = z
theorem en_fr {σ τ : St} {M : Nat → Int → Prop} {z : Int} (f : Fr M σ τ) (n : ∀ f, 578 ≤ f → f ≤ 583 → ¬ M f z) (k : Int) : en τ z k = en σ z k := by
  unfold en
  rw [f.a 578 z (n _ (by decide) (by decide)), f.a 579 z (n _ (by decide) (by decide)), f.a 580 z (n _ (by decide) (by decide)), f.a 581 z (n _ (by decide) (by decide)), f.a 582 z (n _ (by decide) (by decide)), f.a 583 z (n _ (by decide) (by decide))]
theorem sp_ktake {tv : Nat → Int} {cf : Cf} {σ : St} {z k x i : Int} {Q : St → Prop} (hx : 0 ≤ x) (hi : 0 ≤ i ∧ i < 9) (hk : 0 ≤ k ∧ k < 9) (hQ : ∀ τ, (∀ z' k', en τ z' k' = if z' = z ∧ k' = k then en σ x i else en σ z' k') → Fr (mKa z) σ τ → Q τ) : wp_Knot_take cf tv z k x i Q σ := by
  unfold wp_Knot_take
  refine ⟨hx, hi, hk, fun σ1 e1 => ⟨hi, hk, fun σ2 e2 => ⟨hi, hk, fun σ3 e3 => ⟨hi, hk, fun σ4 e4 => ⟨hi, hk, fun σ5 e5 => ⟨hi, hk, fun σ6 e6 => ?_⟩⟩⟩⟩⟩⟩
  have fr : Fr (mKa z) σ σ6 := by
    rw [e6, e5, e4, e3, e2, e1]
    exact ((((((Fr.rf _ _).sA ⟨by omega, rfl⟩).sA ⟨by omega, rfl⟩).sA ⟨by omega, rfl⟩).sA ⟨by omega, rfl⟩).sA ⟨by omega, rfl⟩).sA ⟨by omega, rfl⟩
  refine hQ σ6 (fun z' k' => ?_) fr
  have a1 : ∀ f : Nat, f ≠ 578 → ∀ o i, gA σ1 f o i = gA σ f o i := fun f h o i => by rw [e1, sA_of h]
  have a2 : ∀ f : Nat, f ≠ 579 → ∀ o i, gA σ2 f o i = gA σ1 f o i := fun f h o i => by rw [e2, sA_of h]
  have a3 : ∀ f : Nat, f ≠ 580 → ∀ o i, gA σ3 f o i = gA σ2 f o i := fun f h o i => by rw [e3, sA_of h]
  have a4 : ∀ f : Nat, f ≠ 581 → ∀ o i, gA σ4 f o i = gA σ3 f o i := fun f h o i => by rw [e4, sA_of h]
  have a5 : ∀ f : Nat, f ≠ 582 → ∀ o i, gA σ5 f o i = gA σ4 f o i := fun f h o i => by rw [e5, sA_of h]
  have a6 : ∀ f : Nat, f ≠ 583 → ∀ o i, gA σ6 f o i = gA σ5 f o i := fun f h o i => by rw [e6, sA_of h]
  have g1 : gA σ6 578 z' k' = if z' = z ∧ k' = k then gA σ 578 x i else gA σ 578 z' k' := by
    rw [a6 _ (by decide), a5 _ (by decide), a4 _ (by decide), a3 _ (by decide), a2 _ (by decide), e1, gA_sA]
    by_cases q : z' = z ∧ k' = k
    · rw [if_pos ⟨rfl, q.1, q.2⟩, if_pos q]
    · rw [if_neg (fun w => q w.2), if_neg q]
  have g2 : gA σ6 579 z' k' = if z' = z ∧ k' = k then gA σ 579 x i else gA σ 579 z' k' := by
    rw [a6 _ (by decide), a5 _ (by decide), a4 _ (by decide), a3 _ (by decide), e2, gA_sA, a1 _ (by decide), a1 _ (by decide)]
    by_cases q : z' = z ∧ k' = k
    · rw [if_pos ⟨rfl, q.1, q.2⟩, if_pos q]
    · rw [if_neg (fun w => q w.2), if_neg q]
  have g3 : gA σ6 580 z' k' = if z' = z ∧ k' = k then gA σ 580 x i else gA σ 580 z' k' := by
    rw [a6 _ (by decide), a5 _ (by decide), a4 _ (by decide), e3, gA_sA, a2 _ (by decide), a2 _ (by decide), a1 _ (by decide), a1 _ (by decide)]
    by_cases q : z' = z ∧ k' = k
    · rw [if_pos ⟨rfl, q.1, q.2⟩, if_pos q]
    · rw [if_neg (fun w => q w.2), if_neg q]
  have g4 : gA σ6 581 z' k' = if z' = z ∧ k' = k then gA σ 581 x i else gA σ 581 z' k' := by
    rw [a6 _ (by decide), a5 _ (by decide), e4, gA_sA, a3 _ (by decide), a3 _ (by decide), a2 _ (by decide), a2 _ (by decide), a1 _ (by decide), a1 _ (by decide)]
    by_cases q : z' = z ∧ k' = k
    · rw [if_pos ⟨rfl, q.1, q.2⟩, if_pos q]
    · rw [if_neg (fun w => q w.2), if_neg q]
  have g5 : gA σ6 582 z' k' = if z' = z ∧ k' = k then gA σ 582 x i else gA σ 582 z' k' := by
    rw [a6 _ (by decide), e5, gA_sA, a4 _ (by decide), a4 _ (by decide), a3 _ (by decide), a3 _ (by decide), a2 _ (by decide), a2 _ (by decide), a1 _ (by decide), a1 _ (by decide)]
    by_cases q : z' = z ∧ k' = k
    · rw [if_pos ⟨rfl, q.1, q.2⟩, if_pos q]
    · rw [if_neg (fun w => q w.2), if_neg q]
  have g6 : gA σ6 583 z' k' = if z' = z ∧ k' = k then gA σ 583 x i else gA σ 583 z' k' := by
    rw [e6, gA_sA, a5 _ (by decide), a5 _ (by decide), a4 _ (by decide), a4 _ (by decide), a3 _ (by decide), a3 _ (by decide), a2 _ (by decide), a2 _ (by decide), a1 _ (by decide), a1 _ (by decide)]
    by_cases q : z' = z ∧ k' = k
    · rw [if_pos ⟨rfl, q.1, q.2⟩, if_pos q]
    · rw [if_neg (fun w => q w.2), if_neg q]
  show (gA σ6 578 z' k', gA σ6 579 z' k', gA σ6 580 z' k', gA σ6 581 z' k', gA σ6 582 z' k', gA σ6 583 z' k') = _
  rw [g1, g2, g3, g4, g5, g6]
  by_cases q : z' = z ∧ k' = k
  · rw [if_pos q, if_pos q, if_pos q, if_pos q, if_pos q, if_pos q, if_pos q]; rfl
  · rw [if_neg q, if_neg q, if_neg q, if_neg q, if_neg q, if_neg q, if_neg q]; rfl
theorem sp_kset {tv : Nat → Int} {cf : Cf} {σ : St} {z k h l x : Int} {Q : St → Prop} (hk : 0 ≤ k ∧ k < 9) (hQ : ∀ τ, (∀ z' k', en τ z' k' = if z' = z ∧ k' = k then (h, l, (en σ z k).2.2.1, (en σ z k).2.2.2.1, (en σ z k).2.2.2.2.1, x) else en σ z' k') → Fr (mKa z) σ τ → Q τ) : wp_Knot_set cf tv z k h l x Q σ := by
  unfold wp_Knot_set
  refine ⟨hk, fun σ1 e1 => ⟨hk, fun σ2 e2 => ⟨hk, fun σ3 e3 => ?_⟩⟩⟩
  have fr : Fr (mKa z) σ σ3 := by
    rw [e3, e2, e1]
    exact (((Fr.rf _ _).sA ⟨by omega, rfl⟩).sA ⟨by omega, rfl⟩).sA ⟨by omega, rfl⟩
  refine hQ σ3 (fun z' k' => ?_) fr
  rw [e3, e2, e1]
  unfold en
  simp only [gA_sA]
  by_cases q : z' = z ∧ k' = k
  · obtain ⟨rfl, rfl⟩ := q
    simp
  · have w : ∀ f f' : Nat, ¬ (f = f' ∧ z' = z ∧ k' = k) := fun _ _ y => q y.2
    simp [q]
theorem sp_part {tv : Nat → Int} {cf : Cf} {σ : St} {z k c : Int} {Q : St → Prop} (hz : 0 ≤ z) (hcc : gI σ 577 z = c) (hk : 0 ≤ k ∧ k ≤ c) (hc : c < 9) (hQ : ∀ τ, gI τ 577 z = c + 1 → (∀ i, 0 ≤ i → i < k → en τ z i = en σ z i) → (∀ i, k < i → i ≤ c → en τ z i = en σ z (i - 1)) → (k < c → en τ z k = en σ z k) → Fr (fun f o' => (mKa z f o' ∨ (f = 577 ∧ o' = z))) σ τ → Q τ) : wp_Knot_part cf tv z k Q σ := by
  unfold wp_Knot_part
  intro y ey
  rw [ey, hcc]
  refine lQ1_rule (fun y τ => (k ≤ y ∧ y ≤ c) ∧ Fr (mKa z) σ τ ∧ (∀ i, 0 ≤ i → i ≤ y → i < c → en τ z i = en σ z i) ∧ (∀ i, y < i → i ≤ c → en τ z i = en σ z (i - 1))) (fun y _ => (y - k).toNat) ?_ c σ ⟨by omega, Fr.rf _ _, fun i _ _ _ => rfl, fun i a b => by omega⟩
  intro K y τ hI hK
  obtain ⟨hy, fr, h1, h2⟩ := hI
  have ec : gI τ 577 z = c := by rw [fr.i _ _ (fun q => by unfold mKa at q; omega)]; exact hcc
  unfold wp_Knot_part_L5
  refine ⟨fun q σ1 e1 => ?_, fun q => ?_⟩
  · have ey : y = k := by omega
    rw [ec, w32_id (by unfold rI; omega)] at e1
    rw [ey] at h1 h2
    have f1 : Fr (fun f o' => (mKa z f o' ∨ (f = 577 ∧ o' = z))) σ σ1 := by rw [e1]; exact (fr.mono (fun f o' q => Or.inl q)).sI (Or.inr ⟨rfl, rfl⟩)
    have ee : ∀ i, en σ1 z i = en τ z i := fun i => by rw [e1]; rfl
    refine hQ σ1 (by rw [e1, gI_sI, if_pos ⟨rfl, rfl⟩]) (fun i a b => ?_) (fun i a b => ?_) (fun a => ?_) f1
    · rw [ee]; exact h1 i a (by omega) (by omega)
    · rw [ee]; exact h2 i a b
    · rw [ee]; exact h1 k hk.1 (Int.le_refl _) a
  · rw [w32_id (by unfold rI; omega)]
    refine sp_ktake hz (by omega) (by omega) (fun τ' e' f' _ y' ey' => ?_)
    rw [w32_id (by unfold rI; omega)] at ey'
    rw [ey']
    refine hK _ _ ⟨by omega, fr.tr f', fun i a b d => ?_, fun i a b => ?_⟩ (by omega)
    · rw [e', if_neg (fun w => by omega)]; exact h1 i a (by omega) d
    · rw [e']
      by_cases e : i = y
      · rw [if_pos ⟨rfl, e⟩, e]; exact h1 (y - 1) (by omega) (by omega) (by omega)
      · rw [if_neg (fun w => e w.2)]; exact h2 i (by omega) b
theorem sp_leave {tv : Nat → Int} {cf : Cf} {σ : St} {z k c : Int} {Q : St → Prop} (hz : 0 ≤ z) (hcc : gI σ 577 z = c) (hk : 0 ≤ k ∧ k < c) (hc : c ≤ 9) (hQ : ∀ τ, gI τ 577 z = c - 1 → (∀ i, 0 ≤ i → i < k → en τ z i = en σ z i) → (∀ i, k ≤ i → i < c - 1 → en τ z i = en σ z (i + 1)) → Fr (fun f o' => (mKa z f o' ∨ (f = 577 ∧ o' = z))) σ τ → Q τ) : wp_Knot_leave cf tv z k Q σ := by
  unfold wp_Knot_leave
  refine lQ1_rule (fun y τ => (k ≤ y ∧ y < c) ∧ Fr (mKa z) σ τ ∧ (∀ i, 0 ≤ i → i < k → en τ z i = en σ z i) ∧ (∀ i, k ≤ i → i < y → en τ z i = en σ z (i + 1)) ∧ (∀ i, y ≤ i → i < c → en τ z i = en σ z i)) (fun y _ => (c - y).toNat) ?_ k σ ⟨by omega, Fr.rf _ _, fun i _ _ => rfl, fun i a b => by omega, fun i _ _ => rfl⟩
  intro K y τ hI hK
  obtain ⟨hy, fr, h1, h2, h3⟩ := hI
  have ec : gI τ 577 z = c := by rw [fr.i _ _ (fun q => by unfold mKa at q; omega)]; exact hcc
  unfold wp_Knot_leave_L2
  rw [ec, w32_id (by unfold rI; omega)]
  refine ⟨fun q σ1 e1 => ?_, fun q => ?_⟩
  · rw [w32_id (by unfold rI; omega)] at e1
    have c1 : gI σ1 577 z = c - 1 := by rw [e1, gI_sI, if_pos ⟨rfl, rfl⟩]
    rw [c1]
    refine ⟨by omega, fun σ2 e2 => ?_⟩
    have f2 : Fr (fun f o' => (mKa z f o' ∨ (f = 577 ∧ o' = z))) σ σ2 := by rw [e2, e1]; exact ((fr.mono (fun f o' q => Or.inl q)).sI (Or.inr ⟨rfl, rfl⟩)).sA (Or.inl ⟨by omega, rfl⟩)
    have ee : ∀ i, i ≠ c - 1 → en σ2 z i = en τ z i := fun i ne => by
      rw [e2, e1]; unfold en
      simp only [gA_sA, gA_sI]
      simp [ne]
    refine hQ σ2 (by rw [e2, gI_sA]; exact c1) (fun i a b => ?_) (fun i a b => ?_) f2
    · rw [ee i (by omega)]; exact h1 i a b
    · rw [ee i (by omega)]; exact h2 i a (by omega)
  · refine sp_ktake hz (by omega) (by omega) (fun τ' e' f' _ y' ey' => ?_)
    rw [ey']
    refine hK _ _ ⟨by omega, fr.tr f', fun i a b => ?_, fun i a b => ?_, fun i a b => ?_⟩ (by omega)
    · rw [e', if_neg (fun w => by omega)]; exact h1 i a b
    · rw [e']
      by_cases e : i = y
      · rw [if_pos ⟨rfl, e⟩, e]; exact h3 (y + 1) (by omega) (by omega)
      · rw [if_neg (fun w => e w.2)]; exact h2 i a (by omega)
    · rw [e', if_neg (fun w => by omega)]; exact h3 i (by omega) b
