/-- what Sp says of the first w pages rests on them alone -/
def SpX (Sp : Int → Int → (Int → Int → Int) → Prop) : Prop := ∀ n w pg pg', (∀ k, 0 ≤ k → k < w → ∀ i, 0 ≤ i → i < 128 → pg k i = pg' k i) → Sp n w pg → Sp n w pg'
/-- what is found again, of what there was -/
def fnd (cf : Cf) (Sp : Int → Int → (Int → Int → Int) → Prop) (vw : Int → Int) (vp : Int → Int → Int → Int) (vw' : Int → Int) (vp' : Int → Int → Int → Int) : Prop := ∀ n, 0 ≤ n → n < cf.1 - 6 → (vw n ≠ -1 → vw' n = vw n ∧ ∀ k, 0 ≤ k → k < vw n → ∀ i, 0 ≤ i → i < 128 → vp' n k i = vp n k i) ∧ (vw n = -1 → vw' n = -1 ∨ (0 ≤ vw' n ∧ ∀ w, 0 ≤ w → w ≤ vw' n → Sp n w (vp' n)))
/-- a block that would be taken for n: stale, or as what n has -/
theorem BI.clmS {tv : Nat → Int} {cf : Cf} {σ : St} {o : Int} {lp : Int → Int → Int} {vw : Int → Int} {vp : Int → Int → Int → Int} {Sp : Int → Int → (Int → Int → Int) → Prop} {T : Int} {b n : Int} (h : BI tv cf σ o lp vw vp Sp T NoE) (hb : 0 ≤ b ∧ b < cf.1) (hn : 0 ≤ n ∧ n < cf.1 - 6) (hk : clm tv cf σ lp b n) : (∃ pg : Int → Int → Int, (∀ w, 0 ≤ w → w ≤ gA σ 133 0 b - 2 → Sp n w pg) ∧ ∀ k, 0 ≤ k → k < gA σ 133 0 b - 2 → ∀ i, 0 ≤ i → i < 128 → lp (b * cf.2.1 + (2 + k)) i = pg k i) ∨ (gA σ 258 o n ≠ -1 ∧ gA σ 133 0 b ≤ gA σ 133 0 (gA σ 258 o n) ∧ ∀ k, 0 ≤ k → k < gA σ 133 0 b - 2 → ∀ i, 0 ≤ i → i < 128 → lp (b * cf.2.1 + (2 + k)) i = lp (gA σ 258 o n * cf.2.1 + (2 + k)) i) := by
  obtain ⟨h1, h2, h3, h4, h5, h6, h7, h8, h9, h10⟩ := h
  obtain ⟨k1, k2, k3, k4⟩ := hk
  obtain ⟨c1, c2, c3, c4, c5⟩ := h3 b hb.1 hb.2 (fun z => z)
  by_cases p0 : 0 ≤ gA σ 259 o b
  · obtain ⟨d1, d2, d3, d4, d5⟩ := c5 p0
    rw [k3] at d4
    rw [← d4] at d2
    exact Or.inr ⟨by omega, by rw [d2]; exact Int.le_refl _, fun k _ _ i _ _ => by rw [d2]⟩
  · by_cases p2 : gA σ 259 o b = -2
    · rcases h7 b hb.1 hb.2 (fun z => z) p2 k2 k4 with w | ⟨s, w1, w2, w3, w4⟩
      · rw [k3] at w; exact Or.inl w
      · rw [k3] at w1
        rw [w1]
        exact Or.inr ⟨w2, w3, w4⟩
    · by_cases p1 : gA σ 259 o b = -1
      · have := (c2 p1).2; omega
      · have p3 : gA σ 259 o b = -3 := by omega
        rcases c3 p3 with w | w
        · exact absurd k1 w
        · rcases h5 with q | ⟨n', t, s, a1, a2, a3, a4, a5, a6, a7, a8, a9, a10, a11, a12, a13, a14, a15, a16, a17⟩
          · exact absurd q w.1
          · have e : b = t := w.2.trans a2
            rw [← e] at a9 a10 a11 a13 a16
            have en : n' = n := a9.symm.trans k3
            rw [en] at a3
            have wh : hPgs (lp (b * cf.2.1 + 1)) + 2 ≤ gA σ 133 0 b := by
              rcases k4 with z | z
              · exact absurd a10 z
              · exact z.1
            rw [a3]
            exact Or.inr ⟨by omega, by omega, fun k k0 k1 => a16 k k0 (by omega)⟩
/-- the carrier would be taken for its number, and what is taken in its place has the same -/
theorem BI.cwin {tv : Nat → Int} {cf : Cf} {σ : St} {o : Int} {lp : Int → Int → Int} {vw : Int → Int} {vp : Int → Int → Int → Int} {Sp : Int → Int → (Int → Int → Int) → Prop} {T : Int} {n s : Int} (h : BI tv cf σ o lp vw vp Sp T NoE) (hn : 0 ≤ n ∧ n < cf.1 - 6) (hs : gA σ 258 o n ≠ -1) (hw : win tv cf σ lp cf.1 n s) : gA σ 133 0 s = gA σ 133 0 (gA σ 258 o n) ∧ ∀ k, 0 ≤ k → k < gA σ 133 0 s - 2 → ∀ i, 0 ≤ i → i < 128 → lp (s * cf.2.1 + (2 + k)) i = lp (gA σ 258 o n * cf.2.1 + (2 + k)) i := by
  obtain ⟨h1, h2, h3, h4, h5, h6, h7, h8, h9, h10⟩ := id h
  obtain ⟨w1, w2, w3⟩ := hw
  by_cases e : s = gA σ 258 o n
  · rw [← e]; exact ⟨rfl, fun k _ _ i _ _ => rfl⟩
  generalize hr : gA σ 258 o n = r at *
  have hr2 : (0 ≤ r ∧ r < cf.1) ∧ gA σ 259 o r = n := by
    rcases h4 n hn.1 hn.2 with w | w
    · rw [hr] at w; exact absurd w hs
    · rw [hr] at w; exact w
  obtain ⟨d1, d2, d3, d4, d5⟩ := (h3 r hr2.1.1 hr2.1.2 (fun z => z)).2.2.2.2 (by omega)
  have ub := h.unb hr2.1 (fun z => z) (by omega)
  have q1 := w3 r hr2.1.1 hr2.1.2 (fun z => e z.symm) ⟨ub, d3, d4.trans hr2.2, d5⟩
  rcases h6 r s hr2.1.1 hr2.1.2 w1.1 w1.2 (fun z => e z.symm) (fun z => z) (fun z => z) (by omega) w2.1 w2.2.1 (by rw [hr2.2]; exact w2.2.2.1) w2.2.2.2 with q | q
  · omega
  · rcases h5 with z | ⟨n', t, s', a1, a2, a3, a4, a5, a6, a7, a8, a9, a10, a11, a12, a13, a14, a15, a16, a17⟩
    · omega
    · have e2 : s = t := q.2.trans a2
      have en : n' = n := by omega
      rw [en, hr] at a3
      rw [← e2] at a9 a10 a11 a13 a16
      have wh : hPgs (lp (s * cf.2.1 + 1)) + 2 ≤ gA σ 133 0 s := by
        rcases w2.2.2.2 with z | z
        · exact absurd a10 z
        · exact z.1
      rw [← a3] at a12 a16
      exact ⟨by omega, fun k k0 k1 => a16 k k0 (by omega)⟩
theorem BI.att {tv : Nat → Int} {cf : Cf} {σ : St} {o : Int} {lp : Int → Int → Int} {vw : Int → Int} {vp : Int → Int → Int → Int} {Sp : Int → Int → (Int → Int → Int) → Prop} {T : Int} {τ : St} {o' : Int} (h : BI tv cf σ o lp vw vp Sp T NoE) (hSx : SpX Sp) (fr : Fr (mAt o') σ τ) (hat : ATI tv cf σ lp o' τ cf.1) (hm : gI τ 265 o' = -1) (her : ∀ b, 0 ≤ b → b < cf.1 → gA σ 134 0 b = 0 → gA τ 260 o' b = gA σ 260 o b) (hse : 0 ≤ gI τ 261 o' ∧ gI τ 261 o' ≤ T) (hsl : ∀ b, 0 ≤ b → b < cf.1 → gA σ 134 0 b = 0 → 2 ≤ gA σ 133 0 b → hSer (lp (b * cf.2.1 + 1)) ≤ gI τ 261 o') :
    ∃ vw' vp', BI tv cf τ o' lp vw' vp' Sp T NoE ∧ fnd cf Sp vw vp vw' vp' := by
  obtain ⟨h1, h2, h3, h4, h5, h6, h7, h8, h9, h10⟩ := id h
  obtain ⟨at1, at2⟩ := hat
  have nA : ∀ f o'', (f < 135) → ¬ mAt o' f o'' := fun f o'' a q => by unfold mAt at q; omega
  have nB : ¬ mAt o' 136 0 := fun q => by unfold mAt at q; omega
  have ew := fr.a 133 0 (nA _ _ (by decide))
  have eb := fr.a 134 0 (nA _ _ (by decide))
  have ef := fr.i 136 0 nB
  have el := fl_fr fr (fun q => by unfold mAt at q; omega)
  have wh : ∀ b, whB tv cf τ lp b ↔ whB tv cf σ lp b := fun b => by unfold whB; rw [ew]
  have w1 : ∀ b, 0 ≤ b → b < cf.1 → gA σ 134 0 b = 0 → 1 ≤ gA σ 133 0 b := fun b b0 b1 q => (h2 b b0 b1 (fun z => z) q).1.1
  have hnr : ∀ b, 0 ≤ b → b < cf.1 → gA σ 134 0 b = 0 → 2 ≤ gA σ 133 0 b → 0 ≤ hNum (lp (b * cf.2.1 + 1)) ∧ hNum (lp (b * cf.2.1 + 1)) < cf.1 - 6 := fun b b0 b1 q w => ((h2 b b0 b1 (fun z => z) q).2 w).2.1
  have wn : ∀ n, 0 ≤ n → n < cf.1 - 6 → gA τ 258 o' n ≠ -1 → win tv cf σ lp cf.1 n (gA τ 258 o' n) := by
    intro n n0 n1 q
    rcases at1 n n0 n1 with w | w
    · exact absurd w.1 q
    · exact w
  -- who carries
  have car : ∀ b, 0 ≤ b → b < cf.1 → 0 ≤ gA τ 259 o' b → gA σ 134 0 b = 0 ∧ 2 ≤ gA σ 133 0 b ∧ gA τ 259 o' b = hNum (lp (b * cf.2.1 + 1)) ∧ gA τ 258 o' (hNum (lp (b * cf.2.1 + 1))) = b := by
    intro b b0 b1 q
    obtain ⟨g1, g2, g3⟩ := at2 b b0 b1
    have u : gA σ 134 0 b = 0 := by
      apply Classical.byContradiction
      intro z; have := g1 z; omega
    have w : 2 ≤ gA σ 133 0 b := by
      apply Classical.byContradiction
      intro z
      have := w1 b b0 b1 u
      have := g2 u (by omega)
      omega
    have g := g3 u w
    by_cases e : gA τ 258 o' (hNum (lp (b * cf.2.1 + 1))) = b
    · rw [if_pos e] at g; exact ⟨u, w, g, e⟩
    · rw [if_neg e] at g; omega
  refine ⟨fun n => if gA τ 258 o' n = -1 then -1 else gA σ 133 0 (gA τ 258 o' n) - 2, fun n k i => lp (gA τ 258 o' n * cf.2.1 + (2 + k)) i, ⟨h1.fr fr (fun f a c => nA f 0 (by omega)), ?_, ?_, ?_, Or.inl hm, ?_, ?_, ?_, ?_, ?_⟩, ?_⟩
  · intro b b0 b1 _
    rw [eb, ew]
    intro u
    obtain ⟨y1, y2⟩ := h2 b b0 b1 (fun z => z) u
    rw [her b b0 b1 u]
    refine ⟨y1, fun w => ?_⟩
    obtain ⟨z1, z2, z3, z4, z5⟩ := y2 w
    exact ⟨z1, z2, z3, z4, hsl b b0 b1 u w⟩
  · intro b b0 b1 _
    rw [eb, ew, wh]
    obtain ⟨g1, g2, g3⟩ := at2 b b0 b1
    by_cases u : gA σ 134 0 b = 0
    · by_cases w : gA σ 133 0 b = 1
      · rw [g2 u w]
        exact ⟨by omega, fun _ => ⟨u, w⟩, fun q => by omega, fun q => absurd u q, fun q => by omega⟩
      · have w' : 2 ≤ gA σ 133 0 b := by have := w1 b b0 b1 u; omega
        have hr := hnr b b0 b1 u w'
        have g := g3 u w'
        by_cases e : gA τ 258 o' (hNum (lp (b * cf.2.1 + 1))) = b
        · rw [if_pos e] at g
          have ww := wn _ hr.1 hr.2 (by omega)
          rw [e] at ww
          rw [g]
          exact ⟨by omega, fun q => by omega, fun q => by omega, fun q => absurd u q, fun _ => ⟨hr.2, e, w', rfl, ww.2.1.2.2.2⟩⟩
        · rw [if_neg e] at g
          rw [g]
          exact ⟨by omega, fun q => by omega, fun q => by omega, fun q => absurd u q, fun q => by omega⟩
    · rw [g1 u]
      exact ⟨by omega, fun q => by omega, fun _ => Or.inl u, fun _ => rfl, fun q => by omega⟩
  · intro n n0 n1
    by_cases q : gA τ 258 o' n = -1
    · exact Or.inl q
    · have w := wn n n0 n1 q
      refine Or.inr ⟨w.1, ?_⟩
      have g := (at2 _ w.1.1 w.1.2).2.2 w.2.1.1 w.2.1.2.1
      rw [g, w.2.1.2.2.1, if_pos rfl]
  · intro b b' b0 b1 b0' b1' bb _ _
    rw [eb, ew, wh]
    intro x1 x2 x3 x4 x5
    obtain ⟨u, w, g, e⟩ := car b b0 b1 x1
    have hr := hnr b b0 b1 u w
    have ww := wn _ hr.1 hr.2 (by omega)
    rw [e] at ww
    exact Or.inl (ww.2.2 b' b0' b1' (fun z => bb z.symm) ⟨x2, x3, x4.trans g, x5⟩)
  · intro b b0 b1 _
    rw [ew, wh]
    intro x1 x2 x3
    have u : gA σ 134 0 b = 0 := by
      apply Classical.byContradiction
      intro z; have := (at2 b b0 b1).1 z; omega
    have hr := hnr b b0 b1 u x2
    have kk : clm tv cf σ lp b (hNum (lp (b * cf.2.1 + 1))) := ⟨u, x2, rfl, x3⟩
    rcases h.clmS ⟨b0, b1⟩ hr kk with w | ⟨w2, w3, w4⟩
    · exact Or.inl w
    · have nz : gA τ 258 o' (hNum (lp (b * cf.2.1 + 1))) ≠ -1 := by
        rcases at1 _ hr.1 hr.2 with z | z
        · exact absurd kk (z.2 b b0 b1)
        · have := z.1; omega
      obtain ⟨c1, c2⟩ := h.cwin hr w2 (wn _ hr.1 hr.2 nz)
      refine Or.inr ⟨_, rfl, nz, by omega, fun k k0 k1 i i0 i1 => ?_⟩
      rw [w4 k k0 k1 i i0 i1, c2 k k0 (by omega) i i0 i1]
  · intro n n0 n1
    rw [ew]
    dsimp only
    refine ⟨fun q => by rw [if_pos q], fun q => ?_⟩
    rw [if_neg q]
    exact ⟨rfl, fun k _ _ i _ _ => rfl⟩
  · unfold BF brk at h9 ⊢; rw [eb, ef, el]; exact h9
  · exact ⟨hse, h10.2⟩
  · intro n n0 n1
    dsimp only
    obtain ⟨v1, v2⟩ := h8 n n0 n1
    by_cases q : gA σ 258 o n = -1
    · refine ⟨fun z => absurd (v1 q) z, fun _ => ?_⟩
      by_cases q' : gA τ 258 o' n = -1
      · exact Or.inl (by rw [if_pos q'])
      · rw [if_neg q']
        have w := wn n n0 n1 q'
        have w2 := w.2.1.2.1
        refine Or.inr ⟨by omega, fun j j0 j1 => ?_⟩
        rcases h.clmS w.1 ⟨n0, n1⟩ w.2.1 with ⟨pg, z1, z2⟩ | z
        · exact hSx n j pg _ (fun k k0 k1 i i0 i1 => (z2 k k0 (by omega) i i0 i1).symm) (z1 j j0 j1)
        · exact absurd q z.1
    · obtain ⟨u1, u2⟩ := v2 q
      have hs : (0 ≤ gA σ 258 o n ∧ gA σ 258 o n < cf.1) ∧ gA σ 259 o (gA σ 258 o n) = n := by
        rcases h4 n n0 n1 with w | w
        · exact absurd w q
        · exact w
      obtain ⟨d1, d2, d3, d4, d5⟩ := (h3 _ hs.1.1 hs.1.2 (fun z => z)).2.2.2.2 (by omega)
      have ub := h.unb hs.1 (fun z => z) (by omega)
      have nz : gA τ 258 o' n ≠ -1 := by
        rcases at1 n n0 n1 with z | z
        · exact absurd ⟨ub, d3, d4.trans hs.2, d5⟩ (z.2 _ hs.1.1 hs.1.2)
        · have := z.1; omega
      obtain ⟨c1, c2⟩ := h.cwin ⟨n0, n1⟩ q (wn n n0 n1 nz)
      refine ⟨fun _ => ?_, fun z => by omega⟩
      rw [if_neg nz]
      refine ⟨by omega, fun k k0 k1 i i0 i1 => ?_⟩
      rw [u2 k k0 k1 i i0 i1, c2 k k0 (by omega) i i0 i1]
theorem sp_attach {tv : Nat → Int} {cf : Cf} {σ : St} {o : Int} {lp : Int → Int → Int} {vw : Int → Int} {vp : Int → Int → Int → Int} {Sp : Int → Int → (Int → Int → Int) → Prop} {T : Int} {o' : Int} {Q : St → Prop} (hc : CfOK cf) (hrk : RK σ) (h : BI tv cf σ o lp vw vp Sp T NoE) (hSx : SpX Sp)
    (hQ : ∀ τ vw' vp', BI tv cf τ o' lp vw' vp' Sp T NoE → fnd cf Sp vw vp vw' vp' → gI τ 265 o' = -1 → Fr (mAt o') σ τ → RK τ → Q τ) : wp_Blocks_attach cf tv o' Q σ := by
  obtain ⟨h1, h2, h3, h4, h5, h6, h7, h8, h9, h10⟩ := id h
  unfold BT at h10
  refine sp_attach0 hc hrk (T := T) (er := gA σ 260 o) h1 (by omega) ?_ (fun τ fr k at' m ee ss sl => ?_)
  · intro b b0 b1 u
    obtain ⟨y1, y2⟩ := h2 b b0 b1 (fun z => z) u
    refine ⟨⟨y1.1, y1.2.1, y1.2.2.1⟩, fun w => ?_⟩
    obtain ⟨z1, z2, z3, z4, z5⟩ := y2 w
    exact ⟨z1, z2, z3, by omega⟩
  · obtain ⟨vw', vp', H, F⟩ := h.att hSx fr at' m ee ss sl
    exact hQ τ vw' vp' H F m fr k
