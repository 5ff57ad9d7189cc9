/-! a bit turns -/
def mFt (f : Nat) (o : Int) : Prop := (f = 130 ∨ f = 132) ∧ o = 0
theorem flip_page {cf : Cf} (hc : CfOK cf) {σ τ : St} {lp : Int → Int → Int} (hF : FlI cf σ lp) {b p q : Int} (hb : 0 ≤ b ∧ b < cf.1) (hp : 0 ≤ p ∧ p < gA σ 133 0 b) (hq : 0 ≤ q ∧ q < 1024) (h0 : gA σ 132 0 (b * cf.2.1 + p) = 0)
    (hτ : τ = sA (sA σ 130 0 (128 * (b * cf.2.1 + p) + q / 8) (b8 (ixor (gA σ 130 0 (128 * (b * cf.2.1 + p) + q / 8)) (b8 (ishl 1 (q % 8)))))) 132 0 (b * cf.2.1 + p) 1) : FlI cf τ lp := by
  have w : gA τ 133 0 = gA σ 133 0 := by
    funext i; rw [hτ, gA_sA, if_neg (fun z => absurd z.1 (by decide)), gA_sA, if_neg (fun z => absurd z.1 (by decide))]
  have g : gA τ 131 0 = gA σ 131 0 := by
    funext i; rw [hτ, gA_sA, if_neg (fun z => absurd z.1 (by decide)), gA_sA, if_neg (fun z => absurd z.1 (by decide))]
  have t : ∀ i, gA τ 132 0 i = if i = b * cf.2.1 + p then 1 else gA σ 132 0 i := by
    intro i; rw [hτ, gA_sA]
    by_cases hi : i = b * cf.2.1 + p
    · rw [if_pos ⟨rfl, rfl, hi⟩, if_pos hi]
    · rw [if_neg (fun z => hi z.2.2), if_neg hi, gA_sA, if_neg (fun z => absurd z.1 (by decide))]
  have c : ∀ i, gA τ 130 0 i = if i = 128 * (b * cf.2.1 + p) + q / 8 then b8 (ixor (gA σ 130 0 i) (b8 (ishl 1 (q % 8)))) else gA σ 130 0 i := by
    intro i; rw [hτ, gA_sA, if_neg (fun z => absurd z.1 (by decide)), gA_sA]
    by_cases hi : i = 128 * (b * cf.2.1 + p) + q / 8
    · rw [if_pos ⟨rfl, rfl, hi⟩, if_pos hi, hi]
    · rw [if_neg (fun z => hi z.2.2), if_neg hi]
  intro b' b0 b1
  obtain ⟨hw', hpg'⟩ := hF b' b0 b1
  rw [w]
  refine ⟨hw', fun p' p0 p1 => ?_⟩
  obtain ⟨z1, z2, z3⟩ := hpg' p' p0 p1
  unfold PgI
  rw [g, t]
  refine ⟨z1, z2, ?_⟩
  by_cases he : b' * cf.2.1 + p' = b * cf.2.1 + p
  · rw [he] at z1 z2 z3 ⊢
    rw [if_pos rfl]
    refine Or.inr ⟨by decide, q, hq, fun i i0 i1 => ?_⟩
    rcases z3 with ⟨z4, z5⟩ | ⟨z4, -⟩
    · rw [c]
      unfold flb
      by_cases hi : i = q / 8
      · rw [if_pos (by omega), if_pos hi, z5 i i0 i1]
      · rw [if_neg (by omega), if_neg hi, z5 i i0 i1]
    · exact absurd h0 z4
  · rw [if_neg he]
    have ec : ∀ i, 0 ≤ i → i < 128 → gA τ 130 0 (128 * (b' * cf.2.1 + p') + i) = gA σ 130 0 (128 * (b' * cf.2.1 + p') + i) := by
      intro i i0 i1
      rw [c, if_neg (by omega)]
    rcases z3 with ⟨z4, z5⟩ | ⟨z4, q, z5, z6⟩
    · exact Or.inl ⟨z4, fun i i0 i1 => by rw [ec i i0 i1]; exact z5 i i0 i1⟩
    · exact Or.inr ⟨z4, q, z5, fun i i0 i1 => by rw [ec i i0 i1]; exact z6 i i0 i1⟩
theorem sp_flash_turn {cf : Cf} {tv : Nat → Int} (hc : CfOK cf) {σ : St} {lp : Int → Int → Int} (hF : FlI cf σ lp) {n : Int} {Q : St → Prop} (hn : 0 ≤ n) (hQ : ∀ τ, FlI cf τ lp → Fr mFt σ τ → Q τ) : wp_Flash_turn cf tv n Q σ := by
  have hB : 24 ≤ cf.1 ∧ cf.1 ≤ 64 := hc.1
  have hP : 8 ≤ cf.2.1 ∧ cf.2.1 ≤ 32 := hc.2.1
  have second : ∀ (y3 y4 : Int), 0 ≤ y4 → y4 < 1024 → lQ3 (wp_Flash_turn_L86 cf tv n Q) y3 y4 0 σ := by
    intro y3 y4 q0 q1
    refine lQ3_rule (fun _ y4' y5 τ => τ = σ ∧ y4' = y4 ∧ 0 ≤ y5) (fun _ _ y5 _ => (cf.1 - y5).toNat) ?_ y3 y4 0 σ ⟨rfl, rfl, by omega⟩
    intro K a3 a4 a5 τ hI hK
    obtain ⟨rfl, rfl, h5⟩ := hI
    unfold wp_Flash_turn_L86
    refine ⟨fun _ => hQ τ hF (Fr.rf _ τ), fun h => ?_⟩
    refine lQ4_rule (fun _ y4' y5 y6 τ' => τ' = τ ∧ y4' = a4 ∧ y5 = a5 ∧ 0 ≤ y6 ∧ y6 ≤ cf.2.1) (fun _ _ _ y6 _ => (cf.2.1 - y6).toNat) ?_ a3 a4 a5 0 τ ⟨rfl, rfl, rfl, by omega, by omega⟩
    intro K2 c3 c4 c5 c6 τ' hI hK2
    obtain ⟨rfl, rfl, rfl, h60, h61⟩ := hI
    obtain ⟨hw, hpg⟩ := hF c5 h5 (by omega)
    unfold wp_Flash_turn_L98
    refine ⟨by omega, fun hx => ?_, fun hx => ?_⟩
    · intro y hy
      rw [w32_id (by unfold rI; omega)] at hy
      rw [hy]
      exact hK _ _ _ _ ⟨rfl, rfl, by omega⟩ (by omega)
    · obtain ⟨⟨x1, x2, x3⟩, x4⟩ := pix hc (b := c5) (p := c6) ⟨h5, by omega⟩ ⟨h60, by omega⟩
      intro y7 hy7
      rw [x4] at hy7
      rw [hy7]
      clear hy7 y7
      have hb180 : ∀ z, wp_Flash_turn_b180 cf tv n Q K2 z c4 c5 c6 τ' := by
        intro z
        unfold wp_Flash_turn_b180
        intro y hy
        rw [w32_id (by unfold rI; omega)] at hy
        rw [hy]
        exact hK2 _ _ _ _ _ ⟨rfl, rfl, rfl, by omega, by omega⟩ (by omega)
      refine ⟨by omega, fun hz => ⟨fun _ => fun z _ => hb180 z, fun _ => ?_⟩, fun _ => hb180 c3⟩
      rw [jdv_nn q0 (by omega) (by omega), jrm_nn q0 (by omega) (by omega)]
      have e1 : w32 (w32 ((c5 * cf.2.1 + c6) * 128) + c4 / 8) = 128 * (c5 * cf.2.1 + c6) + c4 / 8 := by
        rw [w32_id (x := (c5 * cf.2.1 + c6) * 128) (by unfold rI; omega), w32_id (by unfold rI; omega)]; omega
      rw [e1]
      refine ⟨by omega, by omega, fun σ1 h1 => ⟨by omega, fun σ2 h2 => ?_⟩⟩
      refine hQ σ2 ?_ ?_
      · exact flip_page hc hF ⟨h5, by omega⟩ ⟨h60, by omega⟩ ⟨q0, q1⟩ hz (by rw [h2, h1])
      · rw [h2, h1]
        exact ((Fr.rf _ τ').sA ⟨Or.inl rfl, rfl⟩).sA ⟨Or.inr rfl, rfl⟩
  unfold wp_Flash_turn
  refine lQ2_rule (fun _ y3 τ => τ = σ ∧ 0 ≤ y3 ∧ y3 ≤ cf.1) (fun _ y3 _ => (cf.1 - y3).toNat) ?_ 0 0 σ ⟨rfl, by omega, by omega⟩
  intro K a2 a3 τ hI hK
  obtain ⟨rfl, h30, h31⟩ := hI
  unfold wp_Flash_turn_L4
  refine ⟨fun _ => ⟨fun hz => ⟨hz, fun y3 _ y4 hy4 => ?_⟩, fun _ => hQ τ hF (Fr.rf _ τ)⟩, fun h => ?_⟩
  · rw [jrm_nn hn (by omega) (by omega)] at hy4
    exact second y3 y4 (by omega) (by omega)
  · refine lQ3_rule (fun _ y3 y4 τ' => τ' = τ ∧ y3 = a3 ∧ 0 ≤ y4 ∧ y4 ≤ cf.2.1) (fun _ _ y4 _ => (cf.2.1 - y4).toNat) ?_ a2 a3 0 τ ⟨rfl, rfl, by omega, by omega⟩
    intro K2 c2 c3 c4 τ' hI hK2
    obtain ⟨rfl, rfl, h40, h41⟩ := hI
    obtain ⟨hw, hpg⟩ := hF c3 h30 (by omega)
    unfold wp_Flash_turn_L15
    refine ⟨by omega, fun hx => ?_, fun hx => ?_⟩
    · intro y hy
      rw [w32_id (by unfold rI; omega)] at hy
      rw [hy]
      exact hK _ _ _ ⟨rfl, by omega, by omega⟩ (by omega)
    · obtain ⟨⟨x1, x2, x3⟩, x4⟩ := pix hc (b := c3) (p := c4) ⟨h30, by omega⟩ ⟨h40, by omega⟩
      rw [x4]
      refine ⟨by omega, fun y2 _ y hy => ?_⟩
      rw [w32_id (by unfold rI; omega)] at hy
      rw [hy]
      exact hK2 _ _ _ _ ⟨rfl, rfl, by omega, by omega⟩ (by omega)
