/-! a free block is fetched -/
/-- without a failure to come none comes, and no block breaks -/
def FK (σ τ : St) : Prop := gI σ 136 0 < 0 → gI τ 136 0 < 0 ∧ gA τ 134 0 = gA σ 134 0
theorem FK.rf (σ : St) : FK σ σ := fun h => ⟨h, rfl⟩
theorem FK.tr {a b c : St} (h : FK a b) (k : FK b c) : FK a c := fun q => ⟨(k (h q).1).1, (k (h q).1).2.trans (h q).2⟩
theorem FK.fr {a b : St} {M : Nat → Int → Prop} (h : Fr M a b) (n : ¬ M 136 0) (m : ¬ M 134 0) : FK a b := fun q => ⟨by rw [h.i _ _ n]; exact q, h.a _ _ m⟩
/-- blocks that are neither free nor lost are untouched -/
def UT (cf : Cf) (o : Int) (σ : St) (lp : Int → Int → Int) (τ : St) (lp' : Int → Int → Int) : Prop := ∀ b, 0 ≤ b → b < cf.1 → gA τ 259 o b ≠ -1 → gA τ 259 o b ≠ -3 → gA τ 259 o b = gA σ 259 o b ∧ gA τ 133 0 b = gA σ 133 0 b ∧ ∀ p, 0 ≤ p → p < cf.2.1 → lp' (b * cf.2.1 + p) = lp (b * cf.2.1 + p)
theorem UT.rf (cf : Cf) (o : Int) (σ : St) (lp : Int → Int → Int) : UT cf o σ lp σ lp := fun b _ _ _ _ => ⟨rfl, rfl, fun _ _ _ => rfl⟩
theorem UT.tr {cf : Cf} {o : Int} {σ τ υ : St} {l m n : Int → Int → Int} (h : UT cf o σ l τ m) (k : UT cf o τ m υ n) : UT cf o σ l υ n := by
  intro b b0 b1 c1 c2
  obtain ⟨x1, x2, x3⟩ := k b b0 b1 c1 c2
  obtain ⟨y1, y2, y3⟩ := h b b0 b1 (by rw [← x1]; exact c1) (by rw [← x1]; exact c2)
  exact ⟨x1.trans y1, x2.trans y2, fun p p0 p1 => (x3 p p0 p1).trans (y3 p p0 p1)⟩
theorem sp_eraseOne {tv : Nat → Int} {cf : Cf} {σ : St} {o : Int} {lp : Int → Int → Int} {vw : Int → Int} {vp : Int → Int → Int → Int} {Sp : Int → Int → (Int → Int → Int) → Prop} {T : Int} (hc : CfOK cf) (hrk : RK σ) {Q : Int → St → Prop} (h : BI tv cf σ o lp vw vp Sp T NoE) (hT : T + 1 < 1073741824)
    (h0 : (∀ b, 0 ≤ b → b < cf.1 → gA σ 259 o b ≠ -2) → Q 0 σ)
    (hQ : ∀ τ lp' b, BI tv cf τ o lp' vw vp Sp (T + 1) NoE → (0 ≤ b ∧ b < cf.1) → gA σ 259 o b = -2 → (∀ b', b' ≠ b → gA τ 259 o b' = gA σ 259 o b') → ((gA τ 259 o b = -1 ∧ (0 ≤ gI τ 136 0 ↔ 0 ≤ gI σ 136 0)) ∨ (gA τ 259 o b = -3 ∧ 0 ≤ gI σ 136 0 ∧ gI τ 136 0 < 0)) → FK σ τ → UT cf o σ lp τ lp' → Fr (mSt o) σ τ → RK τ → Q 1 τ) : wp_Blocks_eraseOne cf tv o Q σ := by
  have hB : 24 ≤ cf.1 ∧ cf.1 ≤ 64 := hc.1
  unfold wp_Blocks_eraseOne
  refine lQ1_rule (fun y τ => τ = σ ∧ (0 ≤ y ∧ y ≤ cf.1) ∧ ∀ b, 0 ≤ b → b < y → gA σ 259 o b ≠ -2) (fun y _ => (cf.1 - y).toNat) ?_ 0 σ ⟨rfl, by omega, fun b a c => by omega⟩
  intro K y τ hI hK
  obtain ⟨rfl, hy, hn⟩ := hI
  unfold wp_Blocks_eraseOne_L2
  refine ⟨fun q => ?_, fun q => ⟨by omega, fun a z e => ?_, fun a => ?_⟩⟩
  · exact h0 (fun b b0 b1 => hn b b0 (by omega))
  · rw [w32_id (by unfold rI; omega)] at e
    rw [e]
    refine hK _ _ ⟨rfl, by omega, fun b b0 b1 => ?_⟩ (by omega)
    by_cases q2 : b = y
    · rw [q2]; exact a
    · exact hn b b0 (by omega)
  · have hb : 0 ≤ y ∧ y < cf.1 := by omega
    obtain ⟨n1, n2⟩ := h.nb hb.1 (Or.inr a)
    have hbr : gA τ 134 0 y = 0 := by
      apply Classical.byContradiction
      intro z
      have := (h.2.2.1 y hb.1 hb.2 (fun q => q)).2.2.2.1 z
      omega
    have hae := (h.2.1 y hb.1 hb.2 (fun q => q) hbr).1
    have hex : BI tv cf τ o lp vw vp Sp T (OneE y) := h.ex (fun b q => q.elim) (Int.le_refl _) (by omega)
    refine sp_erase hc hrk hex hb rfl (E' := NoE) (fun b' _ ne q => ne q) n1 n2 ⟨by omega, by omega⟩ hbr hT (fun τ' lp' H c1 c2 c3 c4 w1 w2 c5 c6 hk => ?_)
    refine hQ τ' lp' y H hb a c1 (c5.imp (fun q => ⟨q.1, q.2.2⟩) (fun q => q)) ?_ ?_ c6 hk
    rotate_left
    · intro x x0 x1 z1 z2
      have ne : x ≠ y := fun e => by rw [e] at z1 z2; rcases c5 with d | d <;> omega
      exact ⟨c1 x ne, w1 x ne, fun p p0 p1 => w2 x p ne p0 p1⟩
    intro fi
    rcases c5 with ⟨d1, d2, d3⟩ | ⟨d1, d2, d3⟩
    · refine ⟨by omega, funext (fun x => ?_)⟩
      by_cases e : x = y
      · rw [e, d2, hbr]
      · exact c2 x e
    · omega
theorem sp_fetch {tv : Nat → Int} {cf : Cf} {σ : St} {o : Int} {lp : Int → Int → Int} {vw : Int → Int} {vp : Int → Int → Int → Int} {Sp : Int → Int → (Int → Int → Int) → Prop} {T : Int} (hc : CfOK cf) (hrk : RK σ) {Q : Int → St → Prop} (h : BI tv cf σ o lp vw vp Sp T NoE) (hT : T + 2 < 1073741824)
    (hQ : ∀ r τ lp', BI tv cf τ o lp' vw vp Sp (T + 2) NoE → (0 ≤ r ∧ r < cf.1) → gA τ 259 o r = -1 → FK σ τ → UT cf o σ lp τ lp' → Fr (mSt o) σ τ → RK τ → Q r τ) : wp_Blocks_fetch cf tv o Q σ := by
  unfold wp_Blocks_fetch
  refine sp_freeOne hc (fun r1 f1 f2 _ _ => ?_)
  refine lQ1_rule (fun y τ => ∃ lp' T', BI tv cf τ o lp' vw vp Sp T' NoE ∧ T' ≤ T + 2 ∧ RK τ ∧ Fr (mSt o) σ τ ∧ (FK σ τ ∧ UT cf o σ lp τ lp') ∧ (y = -1 → ∀ b, 0 ≤ b → b < cf.1 → gA τ 259 o b ≠ -1) ∧ (y ≠ -1 → (0 ≤ y ∧ y < cf.1) ∧ gA τ 259 o y = -1) ∧ (y = -1 → (0 ≤ gI τ 136 0 ∧ T' ≤ T) ∨ (gI τ 136 0 < 0 ∧ T' ≤ T + 1))) (fun y τ => if y = -1 then (if 0 ≤ gI τ 136 0 then 2 else 1) else 0) ?_ r1 σ ⟨lp, T, h, by omega, hrk, Fr.rf _ _, ⟨FK.rf _, UT.rf _ _ _ _⟩, f1, f2, fun _ => by omega⟩
  intro K y τ hI hK
  obtain ⟨lp1, T1, h1, h2, h3, h4, h5, h6, h7, h8⟩ := hI
  unfold wp_Blocks_fetch_L6
  refine ⟨fun q => ?_, fun q => ?_⟩
  · obtain ⟨a, b⟩ := h7 q
    exact hQ y τ lp1 (h1.ex (fun _ z => z) h2 hT) a b h5.1 h5.2 h4 h3
  · have t1 := h8 q
    have nf := h6 q
    refine sp_eraseOne hc h3 h1 (by omega) (fun z _ _ => ?_) (fun τ' lp' b H hb c0 c1 c2 c3 ut c4 c5 _ _ => ?_)
    · obtain ⟨b, hb, e⟩ := h1.some hc
      exact absurd (e.elim (nf b hb.1 hb.2) (z b hb.1 hb.2)) (fun q => q)
    · refine ⟨fun e => by omega, fun _ => ?_⟩
      refine sp_freeOne hc (fun r g1 g2 _ hk => ?_)
      refine hK r τ' ⟨lp', T1 + 1, H, by omega, hk, h4.tr c4, ⟨h5.1.tr c3, h5.2.tr ut⟩, g1, g2, fun e => ?_⟩ ?_
      · rcases c2 with ⟨d1, -⟩ | ⟨-, d2, d3⟩
        · exact absurd d1 (g1 e b hb.1 hb.2)
        · exact Or.inr ⟨d3, by omega⟩
      · rw [if_pos q]
        by_cases e : r = -1
        · rw [if_pos e]
          rcases c2 with ⟨d1, -⟩ | ⟨-, d2, d3⟩
          · exact absurd d1 (g1 e b hb.1 hb.2)
          · rw [if_pos d2, if_neg (by omega)]; omega
        · rw [if_neg e]; split <;> omega
