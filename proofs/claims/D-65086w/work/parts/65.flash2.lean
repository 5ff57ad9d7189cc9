/-! writing, erasing, turning -/
def upP (lp : Int → Int → Int) (t : Int) (x : Int → Int) : Int → Int → Int := fun t' => if t' = t then x else lp t'
def mFw (f : Nat) (o : Int) : Prop := ((130 ≤ f ∧ f ≤ 133) ∨ f = 136) ∧ o = 0
theorem sp_flash_write {cf : Cf} {tv : Nat → Int} (hc : CfOK cf) {σ : St} {lp : Int → Int → Int} (hF : FlI cf σ lp) (hr : RK σ) {b p a o : Int} {f : Nat} {Q : Int → St → Prop} (hb : 0 ≤ b ∧ b < cf.1) (hp : p = gA σ 133 0 b) (hpP : p < cf.2.1) (hf : f < 130 ∨ 136 < f) (ht : aty f = 1) (ha : 0 ≤ a) (hl : a + 128 ≤ aln cf f o)
    (hQ : ∀ r τ x, rZ r → FlI cf τ (upP lp (b * cf.2.1 + p) x) → gA τ 133 0 = upF (gA σ 133 0) b (p + 1) → (r = 0 → 0 ≤ gI σ 136 0 ∧ gI τ 136 0 < 0) → (r = 1 → (0 ≤ gI τ 136 0 ↔ 0 ≤ gI σ 136 0)) → (r = 1 → ∀ i, 0 ≤ i → i < 128 → x i = gA σ f o (a + i)) → Fr mFw σ τ → Q r τ) : wp_Flash_write cf tv b p f o a Q σ := by
  obtain ⟨hw, -⟩ := hF b hb.1 hb.2
  obtain ⟨⟨x1, x2, x3⟩, x4⟩ := pix hc hb ⟨by omega, hpP⟩
  have hal := aln_lt hc f o
  unfold wp_Flash_write
  intro y5 hy5
  rw [x4] at hy5
  generalize htt : b * cf.2.1 + p = t at *
  have hy5 := hy5.symm
  subst hy5
  refine sp_fails hr (fun r v rz rv hr1 hr0 => ?_)
  intro _ hRK1
  have e1 : w32 (t * 128) = 128 * t := by rw [w32_id (by unfold rI; omega)]; omega
  rw [e1]
  have hn : (if r = 0 then (128 : Int) else 64) = 128 ∨ (if r = 0 then (128 : Int) else 64) = 64 := by split <;> simp
  generalize hnn : (if r = 0 then (128 : Int) else 64) = n at *
  refine ⟨by omega, fun σ1 h1 => ?_⟩
  have s1 : gA (sI σ 136 0 v) f o = gA σ f o := by funext i; exact gA_sI _ _ _ _ _ _ _
  have s2 : gA (sI σ 136 0 v) 130 0 = gA σ 130 0 := by funext i; exact gA_sI _ _ _ _ _ _ _
  rw [s1, s2] at h1
  have c1 : gA σ1 130 0 = cpy (gA σ f o) (gA σ 130 0) a (128 * t) n := by rw [h1, gA_sAr1]
  refine sp_guard (by omega) (by rw [aln_cells]; omega) (by omega) (fun _ hRK2 => ?_)
  refine ⟨by omega, fun σ2 h2 => ⟨by omega, fun σ3 h3 => ⟨hb, fun σ4 h4 => ?_⟩⟩⟩
  have c4 : gA σ4 130 0 = gA σ1 130 0 := by
    funext i
    rw [h4, gA_sA, if_neg (fun q => absurd q.1 (by decide)), h3, gA_sA, if_neg (fun q => absurd q.1 (by decide)), h2, gA_sA, if_neg (fun q => absurd q.1 (by decide))]
  have g4 : ∀ i, gA σ4 131 0 i = if i = t then gd (fun i => gA σ1 130 0 (128 * t + i)) else gA σ 131 0 i := by
    intro i
    rw [h4, gA_sA, if_neg (fun q => absurd q.1 (by decide)), h3, gA_sA, if_neg (fun q => absurd q.1 (by decide)), h2, gA_sA]
    by_cases hi : i = t
    · rw [if_pos ⟨rfl, rfl, hi⟩, if_pos hi]
    · rw [if_neg (fun q => hi q.2.2), if_neg hi, h1, gA_sAr, if_neg (fun q => absurd q.1 (by decide)), gA_sI]
  have t4 : ∀ i, gA σ4 132 0 i = if i = t then 0 else gA σ 132 0 i := by
    intro i
    rw [h4, gA_sA, if_neg (fun q => absurd q.1 (by decide)), h3, gA_sA]
    by_cases hi : i = t
    · rw [if_pos ⟨rfl, rfl, hi⟩, if_pos hi]
    · rw [if_neg (fun q => hi q.2.2), if_neg hi, h2, gA_sA, if_neg (fun q => absurd q.1 (by decide)), h1, gA_sAr, if_neg (fun q => absurd q.1 (by decide)), gA_sI]
  have w4 : gA σ4 133 0 = upF (gA σ 133 0) b (p + 1) := by
    funext i
    rw [h4, gA_sA, w32_id (by unfold rI; omega)]
    unfold upF
    by_cases hi : i = b
    · rw [if_pos ⟨rfl, rfl, hi⟩, if_pos hi]
    · rw [if_neg (fun q => hi q.2.2), if_neg hi, h3, gA_sA, if_neg (fun q => absurd q.1 (by decide)), h2, gA_sA, if_neg (fun q => absurd q.1 (by decide)), h1, gA_sAr, if_neg (fun q => absurd q.1 (by decide)), gA_sI]
  have f4 : gI σ4 136 0 = v := by
    rw [h4, gI_sA, h3, gI_sA, h2, gI_sA, h1, gI_sAr, gI_sI1]
  have fr4 : Fr mFw σ σ4 := by
    rw [h4]
    refine Fr.sA ?_ ⟨Or.inl (by decide), rfl⟩
    rw [h3]
    refine Fr.sA ?_ ⟨Or.inl (by decide), rfl⟩
    rw [h2]
    refine Fr.sA ?_ ⟨Or.inl (by decide), rfl⟩
    rw [h1]
    refine Fr.sAr ?_ ⟨Or.inl (by decide), rfl⟩
    exact (Fr.rf _ σ).sI ⟨Or.inr rfl, rfl⟩
  have hFl : FlI cf σ4 (upP lp t (fun i => gA σ1 130 0 (128 * t + i))) := by
    intro b' h0' h1'
    obtain ⟨hw', hpg'⟩ := hF b' h0' h1'
    rw [w4]
    unfold upF
    by_cases hbb : b' = b
    · subst hbb
      rw [if_pos rfl]
      refine ⟨by omega, fun p' p0 p1 => ?_⟩
      by_cases hpp : p' = p
      · subst hpp
        rw [htt]
        refine ⟨?_, ?_, Or.inl ⟨by rw [t4, if_pos rfl], ?_⟩⟩
        · rw [g4, if_pos rfl]; unfold upP; rw [if_pos rfl]
        · intro i i0 i1
          unfold upP
          rw [if_pos rfl, c1]
          unfold cpy
          split
          · exact hr.ab f o _ ht
          · exact hr.ab 130 0 _ rfl
        · intro i i0 i1
          unfold upP
          rw [if_pos rfl, c4]
      · have hne : ¬ b' * cf.2.1 + p' = t := fun q => hpp (by omega)
        obtain ⟨z1, z2, z3⟩ := hpg' p' p0 (by omega)
        unfold PgI
        have el : upP lp t (fun i => gA σ1 130 0 (128 * t + i)) (b' * cf.2.1 + p') = lp (b' * cf.2.1 + p') := by unfold upP; rw [if_neg hne]
        rw [el, g4, if_neg hne, t4, if_neg hne]
        have ec : ∀ i, 0 ≤ i → i < 128 → gA σ4 130 0 (128 * (b' * cf.2.1 + p') + i) = gA σ 130 0 (128 * (b' * cf.2.1 + p') + i) := by
          intro i i0 i1
          rw [c4, c1]; unfold cpy
          rw [if_neg (by omega)]
        refine ⟨z1, z2, ?_⟩
        rcases z3 with ⟨z4, z5⟩ | ⟨z4, q, z5, z6⟩
        · exact Or.inl ⟨z4, fun i i0 i1 => by rw [ec i i0 i1]; exact z5 i i0 i1⟩
        · exact Or.inr ⟨z4, q, z5, fun i i0 i1 => by rw [ec i i0 i1]; exact z6 i i0 i1⟩
    · rw [if_neg hbb]
      refine ⟨hw', fun p' p0 p1 => ?_⟩
      have hne : ¬ b' * cf.2.1 + p' = t := fun q => hbb (pix_inj hc (b := b') (b' := b) (p' := p) ⟨p0, by omega⟩ ⟨by omega, hpP⟩ (by omega)).1
      obtain ⟨z1, z2, z3⟩ := hpg' p' p0 p1
      unfold PgI
      have el : upP lp t (fun i => gA σ1 130 0 (128 * t + i)) (b' * cf.2.1 + p') = lp (b' * cf.2.1 + p') := by unfold upP; rw [if_neg hne]
      rw [el, g4, if_neg hne, t4, if_neg hne]
      have ec : ∀ i, 0 ≤ i → i < 128 → gA σ4 130 0 (128 * (b' * cf.2.1 + p') + i) = gA σ 130 0 (128 * (b' * cf.2.1 + p') + i) := by
        intro i i0 i1
        rw [c4, c1]; unfold cpy
        rw [if_neg (by omega)]
      refine ⟨z1, z2, ?_⟩
      rcases z3 with ⟨z4, z5⟩ | ⟨z4, q, z5, z6⟩
      · exact Or.inl ⟨z4, fun i i0 i1 => by rw [ec i i0 i1]; exact z5 i i0 i1⟩
      · exact Or.inr ⟨z4, q, z5, fun i i0 i1 => by rw [ec i i0 i1]; exact z6 i i0 i1⟩
  rcases rZ_cases rz with rfl | rfl
  · rw [if_pos rfl] at hnn ⊢
    subst hnn
    refine hQ 1 σ4 _ rZ_1 hFl w4 (fun q => by omega) (fun _ => by rw [f4]; exact hr0 rfl) (fun _ i i0 i1 => ?_) fr4
    rw [c1]; unfold cpy
    rw [if_pos (by omega)]
    congr 1; omega
  · rw [if_neg (by decide)] at hnn ⊢
    exact hQ 0 σ4 _ rZ_0 hFl w4 (fun _ => by rw [f4]; exact hr1 rfl) (fun q => by omega) (fun q => by omega) fr4
def mFe (f : Nat) (o : Int) : Prop := (130 ≤ f ∧ f ≤ 136 ∧ f ≠ 134) ∧ o = 0
theorem sp_flash_erase {cf : Cf} {tv : Nat → Int} (hc : CfOK cf) {σ : St} {lp : Int → Int → Int} (hF : FlI cf σ lp) (hr : RK σ) {b : Int} {Q : Int → St → Prop} (hb : 0 ≤ b ∧ b < cf.1)
    (hQ : ∀ r τ, rZ r → FlI cf τ lp → (r = 0 → gA τ 133 0 = gA σ 133 0 ∧ 0 ≤ gI σ 136 0 ∧ gI τ 136 0 < 0) → (r = 1 → gA τ 133 0 = upF (gA σ 133 0) b 0 ∧ (0 ≤ gI τ 136 0 ↔ 0 ≤ gI σ 136 0)) → Fr mFe σ τ → Q r τ) : wp_Flash_erase cf tv b Q σ := by
  obtain ⟨⟨x1, x2, x3⟩, x4⟩ := pix hc hb (p := 0) ⟨by omega, by obtain ⟨-, ⟨h3, -⟩, -⟩ := hc; omega⟩
  have hP : 8 ≤ cf.2.1 ∧ cf.2.1 ≤ 32 := hc.2.1
  unfold wp_Flash_erase
  refine sp_fails hr (fun r v rz rv hr1 hr0 => ?_)
  intro _ hRK1
  refine ⟨fun hz => ?_, fun hz => ?_⟩
  · intro y2 hy2
    rw [w32_id (x := b * cf.2.1) (by unfold rI; omega)] at hy2
    rw [hy2]
    clear hy2 y2
    rw [w32_id (x := b * cf.2.1 + cf.2.1) (by unfold rI; omega), w32_id (x := b * cf.2.1 * 128) (by unfold rI; omega), w32_id (x := (b * cf.2.1 + cf.2.1) * 128) (by unfold rI; omega), fill4_3, fill5_3]
    refine sp_fill3 (by omega) (by omega) (by rw [aln_cells]; omega) (by omega) hRK1 (fun hRK2 => ?_)
    refine sp_fill3 (by omega) (by omega) (show _ ≤ cf.1 * cf.2.1 by omega) (by omega) hRK2 (fun hRK3 => ?_)
    refine sp_fill3 (by omega) (by omega) (show _ ≤ cf.1 * cf.2.1 by omega) (by omega) hRK3 (fun hRK4 => ?_)
    refine ⟨hb, fun σ4 h4 => ⟨hb, fun σ5 h5 => ?_⟩⟩
    have hr' : r = 0 := hz
    have c5 : gA σ5 130 0 = (fun i => if b * cf.2.1 * 128 ≤ i ∧ i < (b * cf.2.1 + cf.2.1) * 128 then -1 else gA σ 130 0 i) := by
      funext i
      rw [h5, gA_sA, if_neg (fun q => absurd q.1 (by decide)), h4, gA_sA, if_neg (fun q => absurd q.1 (by decide)), gA_sAr, if_neg (fun q => absurd q.1 (by decide)), gA_sAr, if_neg (fun q => absurd q.1 (by decide)), gA_sAr, if_pos ⟨rfl, rfl⟩]
      rfl
    have g5 : gA σ5 131 0 = (fun i => if b * cf.2.1 ≤ i ∧ i < b * cf.2.1 + cf.2.1 then 0 else gA σ 131 0 i) := by
      funext i
      rw [h5, gA_sA, if_neg (fun q => absurd q.1 (by decide)), h4, gA_sA, if_neg (fun q => absurd q.1 (by decide)), gA_sAr, if_neg (fun q => absurd q.1 (by decide)), gA_sAr, if_pos ⟨rfl, rfl⟩]
      rfl
    have t5 : gA σ5 132 0 = (fun i => if b * cf.2.1 ≤ i ∧ i < b * cf.2.1 + cf.2.1 then 0 else gA σ 132 0 i) := by
      funext i
      rw [h5, gA_sA, if_neg (fun q => absurd q.1 (by decide)), h4, gA_sA, if_neg (fun q => absurd q.1 (by decide)), gA_sAr, if_pos ⟨rfl, rfl⟩]
      rfl
    have w5 : gA σ5 133 0 = upF (gA σ 133 0) b 0 := by
      funext i
      rw [h5, gA_sA, if_neg (fun q => absurd q.1 (by decide)), h4, gA_sA]
      unfold upF
      by_cases hi : i = b
      · rw [if_pos ⟨rfl, rfl, hi⟩, if_pos hi]
      · rw [if_neg (fun q => hi q.2.2), if_neg hi]; rfl
    have f5 : gI σ5 136 0 = v := by
      rw [h5, gI_sA, h4, gI_sA, gI_sAr, gI_sAr, gI_sAr, gI_sI1]
    refine hQ 1 σ5 rZ_1 ?_ (fun q => by omega) (fun _ => ⟨w5, by rw [f5]; exact hr0 hr'⟩) ?_
    · intro b' h0' h1'
      obtain ⟨hw', hpg'⟩ := hF b' h0' h1'
      rw [w5]
      unfold upF
      by_cases hbb : b' = b
      · rw [if_pos hbb]
        exact ⟨by omega, fun p' p0 p1 => by omega⟩
      · rw [if_neg hbb]
        refine ⟨hw', fun p' p0 p1 => ?_⟩
        have hout : ¬ (b * cf.2.1 ≤ b' * cf.2.1 + p' ∧ b' * cf.2.1 + p' < b * cf.2.1 + cf.2.1) := by
          intro q
          have := pix_inj hc (b := b') (b' := b) (p := p') (p' := b' * cf.2.1 + p' - b * cf.2.1) ⟨p0, by omega⟩ ⟨by omega, by omega⟩ (by omega)
          exact hbb this.1
        obtain ⟨z1, z2, z3⟩ := hpg' p' p0 p1
        unfold PgI
        have ec : ∀ i, 0 ≤ i → i < 128 → gA σ5 130 0 (128 * (b' * cf.2.1 + p') + i) = gA σ 130 0 (128 * (b' * cf.2.1 + p') + i) := by
          intro i i0 i1
          rw [c5]; dsimp only
          rw [if_neg (by omega)]
        rw [g5, t5]
        dsimp only
        rw [if_neg hout, if_neg hout]
        refine ⟨z1, z2, ?_⟩
        rcases z3 with ⟨z4, z5⟩ | ⟨z4, q, z5, z6⟩
        · exact Or.inl ⟨z4, fun i i0 i1 => by rw [ec i i0 i1]; exact z5 i i0 i1⟩
        · exact Or.inr ⟨z4, q, z5, fun i i0 i1 => by rw [ec i i0 i1]; exact z6 i i0 i1⟩
    · rw [h5]
      refine Fr.sA ?_ ⟨by decide, rfl⟩
      rw [h4]
      refine Fr.sA (Fr.sAr (Fr.sAr (Fr.sAr ((Fr.rf _ σ).sI ?_) ?_) ?_) ?_) ?_ <;> exact ⟨by decide, rfl⟩
  · have hr' : r = 1 := by rcases rZ_cases rz with q | q <;> omega
    refine hQ 0 _ rZ_0 ?_ (fun _ => ⟨?_, (hr1 hr').1, by rw [gI_sI1]; exact (hr1 hr').2⟩) (fun q => by omega) ((Fr.rf _ σ).sI ⟨by decide, rfl⟩)
    · exact hF.fr (M := fun f o => f = 136 ∧ o = 0) ((Fr.rf _ σ).sI ⟨rfl, rfl⟩) (fun f h1 h2 q => by omega)
    · funext i; exact gA_sI _ _ _ _ _ _ _
