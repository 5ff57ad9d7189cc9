/-! a page is written behind the others of a number -/
theorem BI.vpx {tv : Nat → Int} {cf : Cf} {σ : St} {o : Int} {lp : Int → Int → Int} {vw : Int → Int} {vp : Int → Int → Int → Int} {Sp : Int → Int → (Int → Int → Int) → Prop} {T : Int} {E : Int → Prop} {vp' : Int → Int → Int → Int} (h : BI tv cf σ o lp vw vp Sp T E) (e : ∀ n, 0 ≤ n → n < cf.1 - 6 → ∀ k, 0 ≤ k → k < vw n → ∀ i, 0 ≤ i → i < 128 → vp' n k i = vp n k i) : BI tv cf σ o lp vw vp' Sp T E := by
  obtain ⟨h1, h2, h3, h4, h5, h6, h7, h8, h9, h10⟩ := h
  refine ⟨h1, h2, h3, h4, h5, h6, h7, fun n n0 n1 => ⟨(h8 n n0 n1).1, fun q => ?_⟩, h9, h10⟩
  obtain ⟨v1, v2⟩ := (h8 n n0 n1).2 q
  exact ⟨v1, fun k k0 k1 i i0 i1 => by rw [e n n0 n1 k k0 k1 i i0 i1]; exact v2 k k0 k1 i i0 i1⟩
theorem BI.app {tv : Nat → Int} {cf : Cf} {σ : St} {o : Int} {lp : Int → Int → Int} {vw : Int → Int} {vp : Int → Int → Int → Int} {Sp : Int → Int → (Int → Int → Int) → Prop} {T : Int} (hc : CfOK cf) {τ : St} {n s k : Int} {x : Int → Int} (h : BI tv cf σ o lp vw vp Sp T NoE) (hn : 0 ≤ n ∧ n < cf.1 - 6) (hs : gA σ 258 o n = s) (hs1 : s ≠ -1) (hm : gI σ 265 o ≠ n) (hk : vw n = k) (hkP : 2 + k < cf.2.1) (hF : FlI cf τ (upP lp (s * cf.2.1 + (2 + k)) x)) (ew : gA τ 133 0 = upF (gA σ 133 0) s (2 + k + 1)) (fr : Fr mFw σ τ) (hBF : BF cf τ) : BI tv cf τ o (upP lp (s * cf.2.1 + (2 + k)) x) (upF vw n (k + 1)) (upV vp n (upP (vp n) k x)) Sp T NoE := by
  have hP : 8 ≤ cf.2.1 ∧ cf.2.1 ≤ 32 := hc.2.1
  obtain ⟨h1, h2, h3, h4, h5, h6, h7, h8, h9, h10⟩ := h
  have nm : ∀ f o', (f = 134 ∨ 136 < f) → ¬ mFw f o' := fun f o' a q => by unfold mFw at q; omega
  have eb := fr.a 134 0 (nm _ _ (by decide))
  have ec := fr.a 259 o (nm _ _ (by decide))
  have ebo := fr.a 258 o (nm _ _ (by decide))
  have ee := fr.a 260 o (nm _ _ (by decide))
  have es := fr.i 261 o (nm _ _ (by decide))
  have em := fr.i 265 o (nm _ _ (by decide))
  have et := fr.i 266 o (nm _ _ (by decide))
  have ed := fr.i 267 o (nm _ _ (by decide))
  have eo := fr.i 268 o (nm _ _ (by decide))
  have hs2 : (0 ≤ s ∧ s < cf.1) ∧ gA σ 259 o s = n := by
    rcases h4 n hn.1 hn.2 with q | q
    · omega
    · rw [hs] at q; exact q
  have v8 := (h8 n hn.1 hn.2).2 (by omega)
  rw [hs, hk] at v8
  obtain ⟨c1, c2, c3, c4, c5⟩ := h3 s hs2.1.1 hs2.1.2 (fun z => z)
  obtain ⟨d1, d2, d3, d4, d5⟩ := c5 (by omega)
  have k0 : 0 ≤ k := by omega
  have ln := upP_ne hc (lp := lp) (b := s) (x := x) (p0 := 2 + k) ⟨by omega, by omega⟩
  have wn : ∀ b', b' ≠ s → gA τ 133 0 b' = gA σ 133 0 b' := fun b' q => by rw [ew]; unfold upF; rw [if_neg q]
  have ws : gA τ 133 0 s = k + 3 := by rw [ew]; unfold upF; rw [if_pos rfl]; omega
  have lx : ∀ p, p ≠ 2 + k → upP lp (s * cf.2.1 + (2 + k)) x (s * cf.2.1 + p) = lp (s * cf.2.1 + p) := fun p q => by unfold upP; rw [if_neg (by omega)]
  have l0 : ∀ b, upP lp (s * cf.2.1 + (2 + k)) x (b * cf.2.1 + 0) = lp (b * cf.2.1 + 0) := fun b => by
    by_cases q : b = s
    · rw [q]; exact lx 0 (by omega)
    · exact ln b 0 q (by omega) (by omega)
  have l1 : ∀ b, upP lp (s * cf.2.1 + (2 + k)) x (b * cf.2.1 + 1) = lp (b * cf.2.1 + 1) := fun b => by
    by_cases q : b = s
    · rw [q]; exact lx 1 (by omega)
    · exact ln b 1 q (by omega) (by omega)
  have wh : ∀ b, b ≠ s → 0 ≤ b → b < cf.1 → (whB tv cf τ (upP lp (s * cf.2.1 + (2 + k)) x) b ↔ whB tv cf σ lp b) := fun b q b0 b1 => whB_x hc h1 ln q ⟨b0, b1⟩ (wn b q)
  have whs : whB tv cf τ (upP lp (s * cf.2.1 + (2 + k)) x) s := by
    unfold whB at d5 ⊢
    rw [l1, ws]
    rcases d5 with q | ⟨q1, q2⟩
    · exact Or.inl q
    · refine Or.inr ⟨by omega, ?_⟩
      rw [← q2]
      exact cko_ext _ (fun j hj i _ _ => by rw [lx (2 + j) (by omega)])
  have bos : ∀ n', 0 ≤ n' → n' < cf.1 - 6 → n' ≠ n → gA σ 258 o n' ≠ s := by
    intro n' n0 n1 q e
    rcases h4 n' n0 n1 with z | ⟨-, z⟩
    · omega
    · rw [e] at z; exact q (z.symm.trans hs2.2)
  refine ⟨hF, ?_, ?_, ?_, ?_, ?_, ?_, ?_, hBF, ?_⟩
  · intro b b0 b1 bE
    rw [eb, ee, es, l0, l1]
    intro x1
    obtain ⟨y1, y2⟩ := h2 b b0 b1 bE x1
    by_cases q : b = s
    · subst q
      exact ⟨⟨by omega, y1.2⟩, fun _ => y2 (by omega)⟩
    · rw [wn b q]; exact ⟨y1, y2⟩
  · intro b b0 b1 bE
    rw [eb, ec, em, et, ebo, l1]
    by_cases q : b = s
    · subst q
      exact ⟨c1, fun z => by omega, c3, c4, fun _ => ⟨d1, d2, by omega, d4, whs⟩⟩
    · rw [wn b q, wh b q b0 b1]; exact h3 b b0 b1 bE
  · intro n' n0 n1
    rw [ebo, ec]; exact h4 n' n0 n1
  · rcases h5 with q | ⟨m, u, s', a1, a2, a3, a4, a5, a6, a7, a8, a9, a10, a11, a12, a13, a14, a15, a16, a17⟩
    · exact Or.inl (by rw [em]; exact q)
    · have mn : m ≠ n := fun e => hm (a1.trans e)
      have us : u ≠ s := fun e => by rw [e] at a7; omega
      have ss : s' ≠ s := by rw [← a3]; exact bos m a4.1 a4.2 mn
      have w' := (h1 s' a5.1 a5.2).1
      refine Or.inr ⟨m, u, s', by rw [em]; exact a1, by rw [et]; exact a2, by rw [ebo]; exact a3, a4, a5, a6, by rw [ec]; exact a7, by rw [eb]; exact a8, by rw [l1]; exact a9, by rw [l1]; exact a10, by rw [l1, eo]; exact a11, by rw [eo, wn s' ss]; exact a12, by rw [wn u us, ed]; exact a13, by rw [ed, eo]; exact a14, ?_, ?_, by rw [l1, l1]; exact a17⟩
      · rw [l1, eo, a15]
        exact cko_ext _ (fun j hj i _ _ => by rw [ln s' (2 + j) ss (by omega) (by omega)])
      · rw [ed]
        intro j j0 j1 i i0 i1
        rw [ln u (2 + j) us (by omega) (by omega), ln s' (2 + j) ss (by omega) (by omega)]
        exact a16 j j0 j1 i i0 i1
  · intro b b' b0 b1 b0' b1' bb bE bE'
    rw [eb, ec, em, et, l1, l1]
    by_cases q : b' = s
    · subst q
      intro x1 _ _ x4
      have y := ((h3 b b0 b1 bE).2.2.2.2 x1).2.1
      rw [← x4, d4, hs2.2, hs] at y
      exact absurd y.symm bb
    · rw [wn b' q, wh b' q b0' b1']
      exact h6 b b' b0 b1 b0' b1' bb bE bE'
  · intro b b0 b1 bE
    rw [ec, ebo, l1]
    intro x1
    have q : b ≠ s := fun e => by rw [e] at x1; omega
    rw [wn b q, wh b q b0 b1]
    intro x2 x3
    have w' := (h1 b b0 b1).1
    have lb : ∀ j, 0 ≤ j → j < gA σ 133 0 b - 2 → upP lp (s * cf.2.1 + (2 + k)) x (b * cf.2.1 + (2 + j)) = lp (b * cf.2.1 + (2 + j)) := fun j j0 j1 => ln b (2 + j) q (by omega) (by omega)
    rcases h7 b b0 b1 bE x1 x2 x3 with ⟨pg, y1, y2⟩ | ⟨s', y1, y2, y3, y4⟩
    · exact Or.inl ⟨pg, y1, fun j j0 j1 => by rw [lb j j0 j1]; exact y2 j j0 j1⟩
    · refine Or.inr ⟨s', y1, y2, ?_, fun j j0 j1 => ?_⟩
      · by_cases e : s' = s
        · rw [e] at y3 ⊢; omega
        · rw [wn s' e]; exact y3
      · rw [lb j j0 j1]
        by_cases e : s' = s
        · rw [e] at y3 y4 ⊢; rw [lx (2 + j) (by omega)]; exact y4 j j0 j1
        · rw [ln s' (2 + j) e (by omega) (by omega)]; exact y4 j j0 j1
  · intro n' n0 n1
    rw [ebo]
    unfold upF upV
    by_cases q : n' = n
    · rw [if_pos q, if_pos q, q, hs]
      refine ⟨fun z => absurd z hs1, fun _ => ⟨by omega, fun j j0 j1 i i0 i1 => ?_⟩⟩
      by_cases e : j = k
      · rw [e, upP_at, upP_at]
      · rw [lx (2 + j) (by omega)]
        unfold upP; rw [if_neg e]
        exact v8.2 j j0 (by omega) i i0 i1
    · rw [if_neg q, if_neg q]
      refine ⟨(h8 n' n0 n1).1, fun z => ?_⟩
      have q' := bos n' n0 n1 q
      obtain ⟨v1, v2⟩ := (h8 n' n0 n1).2 z
      have hb' : 0 ≤ gA σ 258 o n' ∧ gA σ 258 o n' < cf.1 := by
        rcases h4 n' n0 n1 with w | w
        · exact absurd w z
        · exact w.1
      have w' := (h1 _ hb'.1 hb'.2).1
      rw [wn _ q']
      refine ⟨v1, fun j j0 j1 i i0 i1 => ?_⟩
      rw [ln _ (2 + j) q' (by omega) (by omega)]
      exact v2 j j0 j1 i i0 i1
  · unfold BT at h10 ⊢; rw [es]; exact h10
