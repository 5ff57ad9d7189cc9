/-! one block changes that is set aside -/
theorem lpx {cf : Cf} (hc : CfOK cf) {lp lp' : Int → Int → Int} {b : Int} (hl : ∀ b' p, b' ≠ b → 0 ≤ p → p < cf.2.1 → lp' (b' * cf.2.1 + p) = lp (b' * cf.2.1 + p)) {b' : Int} (h : b' ≠ b) : lp' (b' * cf.2.1 + 0) = lp (b' * cf.2.1 + 0) ∧ lp' (b' * cf.2.1 + 1) = lp (b' * cf.2.1 + 1) := by
  have hP : 8 ≤ cf.2.1 ∧ cf.2.1 ≤ 32 := hc.2.1
  exact ⟨hl b' 0 h (by omega) (by omega), hl b' 1 h (by omega) (by omega)⟩
theorem whB_x {tv : Nat → Int} {cf : Cf} (hc : CfOK cf) {σ τ : St} {lp lp' : Int → Int → Int} {b : Int} (hF : FlI cf σ lp) (hl : ∀ b' p, b' ≠ b → 0 ≤ p → p < cf.2.1 → lp' (b' * cf.2.1 + p) = lp (b' * cf.2.1 + p)) {b' : Int} (h : b' ≠ b) (hb : 0 ≤ b' ∧ b' < cf.1) (hw : gA τ 133 0 b' = gA σ 133 0 b') : whB tv cf τ lp' b' ↔ whB tv cf σ lp b' := by
  unfold whB
  rw [(lpx hc hl h).2, hw]
  obtain ⟨w, -⟩ := hF b' hb.1 hb.2
  have key : hPgs (lp (b' * cf.2.1 + 1)) + 2 ≤ gA σ 133 0 b' → cko tv (fun k => lp' (b' * cf.2.1 + (2 + k))) (hPgs (lp (b' * cf.2.1 + 1))).toNat = cko tv (fun k => lp (b' * cf.2.1 + (2 + k))) (hPgs (lp (b' * cf.2.1 + 1))).toNat := by
    intro q
    refine cko_ext _ (fun k hk i _ _ => ?_)
    rw [hl b' (2 + (k : Int)) h (by omega) (by omega)]
  constructor
  · rintro (q | ⟨q1, q2⟩)
    · exact Or.inl q
    · exact Or.inr ⟨q1, by rw [← key q1]; exact q2⟩
  · rintro (q | ⟨q1, q2⟩)
    · exact Or.inl q
    · exact Or.inr ⟨q1, by rw [key q1]; exact q2⟩
theorem BI.upd {tv : Nat → Int} {cf : Cf} (hc : CfOK cf) {σ τ : St} {o b : Int} {lp lp' : Int → Int → Int} {vw : Int → Int} {vp : Int → Int → Int → Int} {Sp : Int → Int → (Int → Int → Int) → Prop} {T T' : Int} {E : Int → Prop} (h : BI tv cf σ o lp vw vp Sp T E) (hE : E b) (hnb : ∀ n, 0 ≤ n → n < cf.1 - 6 → gA σ 258 o n ≠ b) (ht : gI σ 265 o = -1 ∨ gI σ 266 o ≠ b) (hF : FlI cf τ lp') (hl : ∀ b' p, b' ≠ b → 0 ≤ p → p < cf.2.1 → lp' (b' * cf.2.1 + p) = lp (b' * cf.2.1 + p)) (hw : ∀ b', b' ≠ b → gA τ 133 0 b' = gA σ 133 0 b') (hr : ∀ b', b' ≠ b → gA τ 134 0 b' = gA σ 134 0 b') (hca : ∀ b', b' ≠ b → gA τ 259 o b' = gA σ 259 o b') (her : ∀ b', b' ≠ b → gA τ 260 o b' = gA σ 260 o b') (hbo : gA τ 258 o = gA σ 258 o) (hm : gI τ 265 o = gI σ 265 o ∧ gI τ 266 o = gI σ 266 o ∧ gI τ 267 o = gI σ 267 o ∧ gI τ 268 o = gI σ 268 o) (hs : gI σ 261 o ≤ gI τ 261 o ∧ gI τ 261 o ≤ T') (hT : T ≤ T' ∧ T' < 1073741824) (hBF : BF cf τ) : BI tv cf τ o lp' vw vp Sp T' E := by
  obtain ⟨h1, h2, h3, h4, h5, h6, h7, h8, h9, h10⟩ := h
  obtain ⟨m1, m2, m3, m4⟩ := hm
  have hP : 8 ≤ cf.2.1 ∧ cf.2.1 ≤ 32 := hc.2.1
  have ne : ∀ b', ¬ E b' → b' ≠ b := fun b' q e => q (by rw [e]; exact hE)
  have wh : ∀ b', b' ≠ b → 0 ≤ b' → b' < cf.1 → (whB tv cf τ lp' b' ↔ whB tv cf σ lp b') := fun b' x y z => whB_x hc h1 hl x ⟨y, z⟩ (hw b' x)
  refine ⟨hF, ?_, ?_, ?_, ?_, ?_, ?_, ?_, hBF, ?_⟩
  · intro b' x0 x1 xE
    have xn := ne b' xE
    rw [hr b' xn, hw b' xn, her b' xn, (lpx hc hl xn).1, (lpx hc hl xn).2]
    intro x2
    obtain ⟨⟨y1, y2, y3, y4⟩, y5⟩ := h2 b' x0 x1 xE x2
    refine ⟨⟨y1, y2, y3, by omega⟩, fun z => ?_⟩
    obtain ⟨z1, z2, z3, z4, z5⟩ := y5 z
    exact ⟨z1, z2, z3, z4, by omega⟩
  · intro b' x0 x1 xE
    have xn := ne b' xE
    rw [hr b' xn, hw b' xn, hca b' xn, hbo, (lpx hc hl xn).2, m1, m2]
    obtain ⟨y1, y2, y3, y4, y5⟩ := h3 b' x0 x1 xE
    refine ⟨y1, y2, y3, y4, fun q => ?_⟩
    obtain ⟨z1, z2, z3, z4, z5⟩ := y5 q
    exact ⟨z1, z2, z3, z4, (wh b' xn x0 x1).mpr z5⟩
  · intro n n0 n1
    rw [hbo]
    rcases h4 n n0 n1 with q | ⟨q1, q2⟩
    · exact Or.inl q
    · exact Or.inr ⟨q1, by rw [hca _ (hnb n n0 n1)]; exact q2⟩
  · rcases h5 with q | ⟨n, t, s, a1, a2, a3, a4, a5, a6, a7, a8, a9, a10, a11, a12, a13, a14, a15, a16, a17⟩
    · exact Or.inl (by rw [m1]; exact q)
    · have tn : t ≠ b := by
        rcases ht with q | q
        · omega
        · rw [← a2]; exact q
      have sn : s ≠ b := by rw [← a3]; exact hnb n a4.1 a4.2
      obtain ⟨w1, -⟩ := h1 s a5.1 a5.2
      refine Or.inr ⟨n, t, s, by rw [m1]; exact a1, by rw [m2]; exact a2, by rw [hbo]; exact a3, a4, a5, a6, by rw [hca t tn]; exact a7, by rw [hr t tn]; exact a8, by rw [(lpx hc hl tn).2]; exact a9, by rw [(lpx hc hl tn).2]; exact a10, by rw [(lpx hc hl tn).2, m4]; exact a11, by rw [m4, hw s sn]; exact a12, by rw [hw t tn, m3]; exact a13, by rw [m3, m4]; exact a14, ?_, ?_, by rw [(lpx hc hl tn).2, (lpx hc hl sn).2]; exact a17⟩
      · rw [(lpx hc hl tn).2, a15, m4]
        refine cko_ext _ (fun k hk i _ _ => ?_)
        rw [hl s (2 + (k : Int)) sn (by omega) (by omega)]
      · intro k k0 k1 i i0 i1
        rw [m3] at k1
        rw [hl t (2 + k) tn (by omega) (by omega), hl s (2 + k) sn (by omega) (by omega)]
        exact a16 k k0 k1 i i0 i1
  · intro x y x0 x1 y0 y1 xy xE yE
    have xn := ne x xE
    have yn := ne y yE
    rw [hca x xn, hr y yn, hw y yn, (lpx hc hl yn).2, (lpx hc hl xn).2, m1, m2, wh y yn y0 y1]
    exact h6 x y x0 x1 y0 y1 xy xE yE
  · intro b' x0 x1 xE
    have xn := ne b' xE
    rw [hca b' xn, hw b' xn, wh b' xn x0 x1, (lpx hc hl xn).2, hbo]
    intro x2 x3 x4
    obtain ⟨w1, -⟩ := h1 b' x0 x1
    obtain ⟨-, y5⟩ := h2 b' x0 x1 xE (by
      by_cases q : gA σ 134 0 b' = 0
      · exact q
      · have := (h3 b' x0 x1 xE).2.2.2.1 q; omega)
    obtain ⟨-, hn, -⟩ := y5 x3
    rcases h7 b' x0 x1 xE x2 x3 x4 with q | ⟨s, s1, s2, s3, s4⟩
    · obtain ⟨pg, q1, q2⟩ := q
      refine Or.inl ⟨pg, q1, fun k k0 k1 i i0 i1 => ?_⟩
      rw [hl b' (2 + k) xn (by omega) (by omega)]
      exact q2 k k0 k1 i i0 i1
    · have sn : s ≠ b := by rw [← s1]; exact hnb _ hn.1 hn.2
      refine Or.inr ⟨s, s1, s2, by rw [hw s sn]; exact s3, fun k k0 k1 i i0 i1 => ?_⟩
      rw [hl b' (2 + k) xn (by omega) (by omega), hl s (2 + k) sn (by omega) (by omega)]
      exact s4 k k0 k1 i i0 i1
  · intro n n0 n1
    rw [hbo]
    obtain ⟨q1, q2⟩ := h8 n n0 n1
    refine ⟨q1, fun q => ?_⟩
    obtain ⟨z1, z2⟩ := q2 q
    rw [hw _ (hnb n n0 n1)]
    refine ⟨z1, fun k k0 k1 i i0 i1 => ?_⟩
    rcases h4 n n0 n1 with q' | ⟨q1', -⟩
    · exact absurd q' q
    · obtain ⟨w1, -⟩ := h1 _ q1'.1 q1'.2
      rw [hl _ (2 + k) (hnb n n0 n1) (by omega) (by omega)]
      exact z2 k k0 k1 i i0 i1
  · obtain ⟨⟨y1, y2⟩, y3⟩ := h10
    exact ⟨⟨by omega, hs.2⟩, hT.2⟩
/-- a block that was set aside counts again -/
theorem BI.adm {tv : Nat → Int} {cf : Cf} {σ : St} {o b : Int} {lp : Int → Int → Int} {vw : Int → Int} {vp : Int → Int → Int → Int} {Sp : Int → Int → (Int → Int → Int) → Prop} {T : Int} {E E' : Int → Prop} (h : BI tv cf σ o lp vw vp Sp T E) (hE : ∀ b', ¬ E' b' → b' ≠ b → ¬ E b') (hA : BA tv cf σ o lp T (fun b' => b' ≠ b)) (hC : BC tv cf σ o lp (fun b' => b' ≠ b)) (hD : ∀ b', 0 ≤ b' → b' < cf.1 → b' ≠ b → ¬ E b' → 0 ≤ gA σ 259 o b' → gA σ 134 0 b = 0 → 2 ≤ gA σ 133 0 b → hNum (lp (b * cf.2.1 + 1)) = gA σ 259 o b' → whB tv cf σ lp b → (hSer (lp (b * cf.2.1 + 1)) < hSer (lp (b' * cf.2.1 + 1)) ∨ (hSer (lp (b * cf.2.1 + 1)) = hSer (lp (b' * cf.2.1 + 1)) ∧ b' < b)) ∨ (gI σ 265 o = gA σ 259 o b' ∧ b = gI σ 266 o)) (hD2 : ∀ b', 0 ≤ b' → b' < cf.1 → b' ≠ b → ¬ E b' → 0 ≤ gA σ 259 o b → gA σ 134 0 b' = 0 → 2 ≤ gA σ 133 0 b' → hNum (lp (b' * cf.2.1 + 1)) = gA σ 259 o b → whB tv cf σ lp b' → (hSer (lp (b' * cf.2.1 + 1)) < hSer (lp (b * cf.2.1 + 1)) ∨ (hSer (lp (b' * cf.2.1 + 1)) = hSer (lp (b * cf.2.1 + 1)) ∧ b < b')) ∨ (gI σ 265 o = gA σ 259 o b ∧ b' = gI σ 266 o)) (hS : BS tv cf σ o lp Sp (fun b' => b' ≠ b)) : BI tv cf σ o lp vw vp Sp T E' := by
  obtain ⟨h1, h2, h3, h4, h5, h6, h7, h8, h9, h10⟩ := h
  refine ⟨h1, ?_, ?_, h4, h5, ?_, ?_, h8, h9, h10⟩
  · intro x x0 x1 xE
    by_cases q : x = b
    · exact hA x x0 x1 (fun z => z q)
    · exact h2 x x0 x1 (hE x xE q)
  · intro x x0 x1 xE
    by_cases q : x = b
    · exact hC x x0 x1 (fun z => z q)
    · exact h3 x x0 x1 (hE x xE q)
  · intro x y x0 x1 y0 y1 xy xE yE
    by_cases q : x = b
    · subst q
      exact hD2 y y0 y1 (Ne.symm xy) (hE y yE (Ne.symm xy))
    · by_cases r : y = b
      · subst r
        exact hD x x0 x1 q (hE x xE q)
      · exact h6 x y x0 x1 y0 y1 xy (hE x xE q) (hE y yE r)
  · intro x x0 x1 xE
    by_cases q : x = b
    · exact hS x x0 x1 (fun z => z q)
    · exact h7 x x0 x1 (hE x xE q)
