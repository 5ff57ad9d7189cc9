/-- too few numbers are left -/
def shr (cf : Cf) (u x : Int → Int) : Prop := emp cf u < whl cf + 2 ∨ rmy cf u x < 2 * whl cf + 4
theorem sp_isShort {tv : Nat → Int} {cf : Cf} {σ : St} {o : Int} {Q : Int → St → Prop} (hc : CfOK cf) (h1 : shr cf (gA σ 323 o) (gA σ 325 o) → Q 1 σ) (h0 : whl cf + 2 ≤ emp cf (gA σ 323 o) → 2 * whl cf + 4 ≤ rmy cf (gA σ 323 o) (gA σ 325 o) → Q 0 σ) : wp_Store_isShort cf tv o Q σ := by
  have hw := whl_r hc
  unfold wp_Store_isShort wp_Store_isShort_b34
  refine sp_empty hc (fun _ _ => ?_)
  rw [w32_id (x := whl cf + 2) (by unfold rI; omega), w32_id (x := 2 * whl cf) (by unfold rI; omega), w32_id (x := 2 * whl cf + 4) (by unfold rI; omega)]
  refine ⟨fun q => h1 (Or.inl q), fun q => ?_⟩
  exact sp_roomy hc (fun _ _ => ⟨fun q2 => h0 (by omega) q2, fun q2 => h1 (Or.inr (by omega))⟩)
theorem sp_mayMove {tv : Nat → Int} {cf : Cf} {σ : St} {o : Int} {Q : Int → St → Prop} (hc : CfOK cf) (hp : gI σ 451 (o + 2) ≠ -1 → 0 ≤ gI σ 452 (o + 2) ∧ gI σ 452 (o + 2) ≤ 4096)
    (h1 : ((gI σ 451 (o + 2) ≠ -1 ∧ gI σ 452 (o + 2) + 320 ≤ (cf.2.1 - 2) * 128) ∨ (whl cf + 2 ≤ emp cf (gA σ 323 o) ∧ 2 * whl cf + 3 ≤ rmy cf (gA σ 323 o) (gA σ 325 o))) → Q 1 σ)
    (h0 : (gI σ 451 (o + 2) = -1 ∨ (cf.2.1 - 2) * 128 < gI σ 452 (o + 2) + 320) → (emp cf (gA σ 323 o) ≤ whl cf + 1 ∨ rmy cf (gA σ 323 o) (gA σ 325 o) ≤ 2 * whl cf + 2) → Q 0 σ) : wp_Store_mayMove cf tv o Q σ := by
  have hw := whl_r hc
  unfold wp_Store_mayMove wp_Store_mayMove_b47
  refine sp_takes hp (by omega) (fun a b _ _ => ⟨fun _ => h1 (Or.inl ⟨a, b⟩), fun q => absurd q (by decide)⟩) (fun a _ _ => ⟨fun q => absurd rfl q, fun _ => ?_⟩)
  refine sp_empty hc (fun _ _ => ?_)
  rw [w32_id (x := whl cf + 1) (by unfold rI; omega), w32_id (x := 2 * whl cf) (by unfold rI; omega), w32_id (x := 2 * whl cf + 2) (by unfold rI; omega)]
  refine ⟨fun q => h0 a (Or.inl q), fun q => ?_⟩
  exact sp_roomy hc (fun _ _ => ⟨fun q2 => h0 a (Or.inr q2), fun q2 => h1 (Or.inr ⟨by omega, by omega⟩)⟩)
/-- numbers that may be emptied -/
def pkb (cf : Cf) (σ : St) (o x k : Int) : Prop := (4 + cf.2.2 ≤ k ∧ k < cf.1 - 6) ∧ gA σ 323 o k = 1 ∧ (x ≠ 0 ∨ gA σ 325 o k = 0)
theorem sp_pick {tv : Nat → Int} {cf : Cf} {σ : St} {o x : Int} {Q : Int → St → Prop} (hc : CfOK cf)
    (h0 : (∀ k, pkb cf σ o x k → (cf.2.1 - 2) * 128 - 256 < gA σ 324 o k) → Q 0 σ)
    (h1 : ∀ v, pkb cf σ o x v → gA σ 324 o v ≤ (cf.2.1 - 2) * 128 - 256 → (∀ k, pkb cf σ o x k → gA σ 324 o v ≤ gA σ 324 o k) → Q 1 (sI (sI (sI σ 223 o v) 224 o 0) 225 o 0)) : wp_Store_pick cf tv o x Q σ := by
  have hB : 24 ≤ cf.1 ∧ cf.1 ≤ 64 := hc.1
  have hR : 0 ≤ cf.2.2 ∧ cf.2.2 ≤ 4 := hc.2.2
  have hP : 8 ≤ cf.2.1 ∧ cf.2.1 ≤ 32 := hc.2.1
  unfold wp_Store_pick
  intro y e
  rw [e]
  refine lQ2_rule (fun z1 z2 τ => τ = σ ∧ (4 + cf.2.2 ≤ z2 ∧ z2 ≤ cf.1 - 6) ∧ ((z1 = -1 ∧ ∀ k, pkb cf σ o x k → z2 ≤ k) ∨ (pkb cf σ o x z1 ∧ ∀ k, pkb cf σ o x k → k < z2 → gA σ 324 o z1 ≤ gA σ 324 o k))) (fun _ z2 _ => (cf.1 - 6 - z2).toNat) ?_ (-1) _ σ ⟨rfl, by omega, Or.inl ⟨rfl, fun k hk => hk.1.1⟩⟩
  intro K z1 z2 τ hI hK
  obtain ⟨e, h2, h3⟩ := hI
  rw [e]
  unfold wp_Store_pick_L10
  refine ⟨fun q => ?_, fun q => ⟨by omega, ?_⟩⟩
  · rw [w32_id (x := (cf.2.1 - 2) * 128 - 256) (by unfold rI; omega)]
    rcases h3 with ⟨h3, h4⟩ | ⟨h3, h4⟩
    · refine ⟨fun _ => h0 (fun k hk => absurd (h4 k hk) (by have := hk.1.2; omega)), fun w => absurd h3 w⟩
    · have r := h3.1
      refine ⟨fun w => absurd w (by omega), fun _ => ⟨by omega, fun w s1 e1 s2 e2 s3 e3 => ?_, fun w => h0 (fun k hk => ?_)⟩⟩
      · rw [e3, e2, e1]
        exact h1 z1 h3 w (fun k hk => h4 k hk (by have := hk.1.2; omega))
      · have := h4 k hk (by have := hk.1.2; omega)
        omega
  · have nx : ∀ v, ((v = -1 ∧ ∀ k, pkb cf σ o x k → z2 + 1 ≤ k) ∨ (pkb cf σ o x v ∧ ∀ k, pkb cf σ o x k → k < z2 + 1 → gA σ 324 o v ≤ gA σ 324 o k)) → wp_Store_pick_b78 cf tv o x Q K v z2 σ := by
      intro v hv
      unfold wp_Store_pick_b78
      intro y ey
      rw [w32_id (by unfold rI; omega)] at ey
      rw [ey]
      exact hK _ _ _ ⟨rfl, by omega, hv⟩ (by omega)
    have skip : ¬ pkb cf σ o x z2 → wp_Store_pick_b78 cf tv o x Q K z1 z2 σ := by
      intro np
      have ne : ∀ k, pkb cf σ o x k → k ≠ z2 := fun k hk w => np (w ▸ hk)
      refine nx _ ?_
      rcases h3 with ⟨h3, h4⟩ | ⟨h3, h4⟩
      · exact Or.inl ⟨h3, fun k hk => by have := h4 k hk; have := ne k hk; omega⟩
      · exact Or.inr ⟨h3, fun k hk lt => h4 k hk (by have := ne k hk; omega)⟩
    have tk : pkb cf σ o x z2 → wp_Store_pick_b50 cf tv o x Q (wp_Store_pick_b78 cf tv o x Q K) z1 z2 σ := by
      intro hp
      unfold wp_Store_pick_b50 wp_Store_pick_b76
      rcases h3 with ⟨h3, h4⟩ | ⟨h3, h4⟩
      · refine ⟨fun _ => ?_, fun w => absurd h3 w⟩
        refine ?_
        exact nx z2 (Or.inr ⟨hp, fun k hk lt => by have := h4 k hk; rw [show k = z2 by omega]; omega⟩)
      · have r := h3.1
        refine ⟨fun w => absurd w (by omega), fun _ => ⟨by omega, by omega, fun w => ?_, fun w => ?_⟩⟩
        · exact nx z1 (Or.inr ⟨h3, fun k hk lt => by
            by_cases s : k = z2
            · rw [s]; exact w
            · exact h4 k hk (by omega)⟩)
        · exact nx z2 (Or.inr ⟨hp, fun k hk lt => by
            by_cases s : k = z2
            · rw [s]; omega
            · have := h4 k hk (by omega); omega⟩)
    refine ⟨fun w => skip (fun p => w p.2.1), fun w => ⟨fun w2 => tk ⟨⟨h2.1, by omega⟩, w, Or.inl w2⟩, fun w2 => ⟨by omega, fun w3 => skip (fun p => ?_), fun w3 => tk ⟨⟨h2.1, by omega⟩, w, Or.inr w3⟩⟩⟩⟩
    rcases p.2.2 with p | p
    · exact p w2
    · exact w3 p
