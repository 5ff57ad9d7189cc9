/-! blocks and numbers go together -/
theorem iand11 : iand 1 1 = 1 := by rw [iand1]; rfl
theorem mRd_no (o : Int) : ∀ f o', rBI o f o' → ¬ mRd o f o' := fun f o' a q => by unfold rBI at a; unfold mRd at q; omega
theorem BI.unb {tv : Nat → Int} {cf : Cf} {σ : St} {o : Int} {lp : Int → Int → Int} {vw : Int → Int} {vp : Int → Int → Int → Int} {Sp : Int → Int → (Int → Int → Int) → Prop} {T : Int} {b : Int} {E : Int → Prop} (h : BI tv cf σ o lp vw vp Sp T E) (hb : 0 ≤ b ∧ b < cf.1) (hE : ¬ E b) (hcb : gA σ 259 o b ≠ -3) : gA σ 134 0 b = 0 := by
  apply Classical.byContradiction
  intro z
  exact hcb ((h.2.2.1 b hb.1 hb.2 hE).2.2.2.1 z)
theorem sp_bSound {tv : Nat → Int} {cf : Cf} {σ : St} {o : Int} {lp : Int → Int → Int} {vw : Int → Int} {vp : Int → Int → Int → Int} {Sp : Int → Int → (Int → Int → Int) → Prop} {T : Int} (hc : CfOK cf) (hrk : RK σ) {Q : Int → St → Prop} (h : BI tv cf σ o lp vw vp Sp T NoE) (hQ : ∀ τ, Fr (mRd o) σ τ → RK τ → Q 1 τ) : wp_Blocks_isSound cf tv o Q σ := by
  have hB : 24 ≤ cf.1 ∧ cf.1 ≤ 64 := hc.1
  unfold wp_Blocks_isSound
  refine lQ2_rule (fun y1 y2 τ => y1 = 1 ∧ (0 ≤ y2 ∧ y2 ≤ cf.1) ∧ Fr (mRd o) σ τ ∧ RK τ) (fun _ y2 _ => (cf.1 - y2).toNat) ?_ 1 0 σ ⟨rfl, by omega, Fr.rf _ _, hrk⟩
  intro K y1 y2 τ hI hK
  obtain ⟨rfl, hy, fr, rk⟩ := hI
  have H := h.fr fr (mRd_no o)
  have hN := H.2.2.2.1
  unfold wp_Blocks_isSound_L4
  refine ⟨fun q => ?_, fun q => ⟨by omega, fun c ec => ?_⟩⟩
  · refine lQ2_rule (fun z1 z2 υ => z1 = 1 ∧ (0 ≤ z2 ∧ z2 ≤ cf.1 - 6) ∧ υ = τ) (fun _ z2 _ => (cf.1 - z2).toNat) ?_ 1 0 τ ⟨rfl, by omega, rfl⟩
    intro K' z1 z2 υ hI' hK'
    obtain ⟨rfl, hz, rfl⟩ := hI'
    have fin : z2 < cf.1 - 6 → wp_Blocks_isSound_b214 cf tv o Q (wp_Blocks_isSound_b219 cf tv o Q K') z2 1 υ := by
      intro a
      unfold wp_Blocks_isSound_b214 wp_Blocks_isSound_b219
      intro x1 e1 x2 e2
      rw [iand11] at e1
      rw [w32_id (by unfold rI; omega)] at e2
      rw [e1, e2]
      exact hK' _ _ _ ⟨rfl, by omega, rfl⟩ (by omega)
    unfold wp_Blocks_isSound_L180
    refine ⟨fun _ => hQ υ fr rk, fun a => ⟨by omega, fun _ => fin (by omega), fun b => ?_⟩⟩
    rcases hN z2 (by omega) (by omega) with w | w
    · exact absurd w b
    · exact ⟨by omega, w.1, fun n => absurd w.2 n, fun _ => fin (by omega)⟩
  have hb : 0 ≤ y2 ∧ y2 < cf.1 := by omega
  obtain ⟨c1, c2, c3, c4, c5⟩ := H.2.2.1 y2 hb.1 hb.2 (fun z => z)
  have step : ∀ υ, Fr (mRd o) τ υ → RK υ → wp_Blocks_isSound_b172 cf tv o Q K 1 y2 υ := by
    intro υ f r
    unfold wp_Blocks_isSound_b172
    intro x e
    rw [w32_id (by unfold rI; omega)] at e
    rw [e]
    exact hK _ _ _ ⟨rfl, by omega, fr.tr f, r⟩ (by omega)
  have s170 : ∀ υ, Fr (mRd o) τ υ → RK υ → wp_Blocks_isSound_b170 cf tv o Q (wp_Blocks_isSound_b172 cf tv o Q K) y2 1 1 υ := by
    intro υ f r
    unfold wp_Blocks_isSound_b170
    intro x e; rw [iand11] at e; rw [e]; exact step υ f r
  have s137 : ∀ υ, Fr (mRd o) τ υ → RK υ → wp_Blocks_isSound_b137 cf tv o Q (wp_Blocks_isSound_b172 cf tv o Q K) y2 1 1 υ := by
    intro υ f r
    unfold wp_Blocks_isSound_b137
    intro x e; rw [iand11] at e; rw [e]; exact step υ f r
  have s95 : ∀ υ, Fr (mRd o) τ υ → RK υ → wp_Blocks_isSound_b95 cf tv o Q (wp_Blocks_isSound_b172 cf tv o Q K) y2 1 1 υ := by
    intro υ f r
    unfold wp_Blocks_isSound_b95
    intro x e; rw [iand11] at e; rw [e]; exact step υ f r
  have nr : ∀ f o', ((f < 135 ∨ 135 < f) ∧ f ≠ 262 ∧ f ≠ 263 ∧ (f < 269 ∨ 273 < f)) → ¬ mRd o f o' := fun f o' a q => by unfold mRd at q; omega
  have mid : ∀ t0, (t0 = 0 → ¬ (gI τ 265 o ≠ -1 ∧ y2 = gI τ 266 o)) → wp_Blocks_isSound_b43 cf tv o Q K 1 y2 c t0 τ := by
    intro t0 ht
    unfold wp_Blocks_isSound_b43
    rw [ec]
    refine ⟨fun a => ⟨fun b => ⟨fun _ => step τ (Fr.rf _ _) rk, fun e => ⟨fun _ => s170 τ (Fr.rf _ _) rk, fun z => ?_⟩⟩, fun e => ?_⟩, fun a => ?_⟩
    · unfold wp_Flash_isBroken
      refine ⟨hb, fun _ _ => ⟨fun w => ?_, fun _ => s170 τ (Fr.rf _ _) rk⟩⟩
      rcases c3 e with d | d
      · exact absurd w d
      · exact absurd d (ht z)
    · obtain ⟨d1, d2⟩ := c2 e
      have ba := (H.2.1 y2 hb.1 hb.2 (fun z => z) d1).1
      unfold wp_Flash_written
      refine ⟨hb, fun _ _ => ⟨fun w => absurd d2 w, fun _ => ?_⟩⟩
      refine sp_readErased hc H.1 hb (fun r υ g1 _ f _ k => ?_)
      have er := g1 (by omega) _ ba.2.1
      rw [f.a 260 o (nr _ _ (by decide)), er]
      exact ⟨hb, fun w => absurd rfl w, fun _ => s137 υ f k⟩
    · obtain ⟨d1, d2, d3, d4, d5⟩ := c5 (by omega)
      have ub := H.unb hb (fun z => z) (by omega)
      obtain ⟨ba1, ba2⟩ := H.2.1 y2 hb.1 hb.2 (fun z => z) ub
      have ba := ba2 d3
      refine ⟨by omega, fun w => absurd d2 w, fun _ => ?_⟩
      refine sp_readHead hc H.1 hb (fun r υ rz g1 g2 f _ k => ⟨fun w => ?_, fun _ => ⟨fun w => ?_, fun _ => ?_⟩⟩)
      · have := g1.mpr ⟨d3, ba.1, ba.2.1.1, ba.2.1.2⟩
        omega
      · exact absurd ((g2 d3).1.trans d4) w
      · have H2 := H.fr f (mRd_no o)
        refine sp_readErased hc H2.1 hb (fun r' υ' g1' _ f' _ k' => ?_)
        have er := g1' (by rw [f.a 133 0 (nr _ _ (by decide))]; omega) _ ba1.2.1
        rw [f'.a 260 o (nr _ _ (by decide)), f.a 260 o (nr _ _ (by decide)), er]
        exact ⟨hb, fun w => absurd rfl w, fun _ => s95 υ' (f.tr f') k'⟩
  refine ⟨fun a => mid 0 (fun _ z => z.1 a), fun a => ⟨fun b => mid 0 (fun _ z => b z.2), fun b => mid 1 (fun z => by omega)⟩⟩
