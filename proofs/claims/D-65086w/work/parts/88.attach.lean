/-! blocks are found again -/
theorem clm_c {tv : Nat → Int} {cf : Cf} {σ : St} {lp : Int → Int → Int} {b n n' : Int} (h : clm tv cf σ lp b n) (h' : hNum (lp (b * cf.2.1 + 1)) = n') : n = n' := h.2.2.1.symm.trans h'
/-- the step for a block that does not claim -/
theorem ATI.other {tv : Nat → Int} {cf : Cf} {σ τ υ : St} {lp : Int → Int → Int} {o y c : Int} (h : ATI tv cf σ lp o τ y) (hb : gA υ 258 o = gA τ 258 o) (hx : ∀ x, gA υ 259 o x = if x = y then c else gA τ 259 o x) (hn : ∀ n, ¬ clm tv cf σ lp y n) (c1 : gA σ 134 0 y ≠ 0 → c = -3) (c2 : gA σ 134 0 y = 0 → gA σ 133 0 y = 1 ∧ c = -1) : ATI tv cf σ lp o υ (y + 1) := by
  obtain ⟨h1, h2⟩ := h
  refine ⟨fun n n0 n1 => ?_, fun b b0 b1 => ?_⟩
  · rw [hb]
    rcases h1 n n0 n1 with ⟨w1, w2⟩ | ⟨w1, w2, w3⟩
    · refine Or.inl ⟨w1, fun b b0 b1 => ?_⟩
      by_cases e : b = y
      · rw [e]; exact hn n
      · exact w2 b b0 (by omega)
    · refine Or.inr ⟨by omega, w2, fun b b0 b1 bs q => ?_⟩
      by_cases e : b = y
      · rw [e] at q; exact absurd q (hn n)
      · exact w3 b b0 (by omega) bs q
  · rw [hx, hb]
    by_cases e : b = y
    · rw [if_pos e, e]
      exact ⟨c1, fun a _ => (c2 a).2, fun a w => by have := (c2 a).1; omega⟩
    · rw [if_neg e]; exact h2 b b0 (by omega)
theorem ATI.claim {tv : Nat → Int} {cf : Cf} {σ τ υ : St} {lp : Int → Int → Int} {o y n : Int} (h : ATI tv cf σ lp o τ y) (hy : 0 ≤ y) (hn : 0 ≤ n ∧ n < cf.1 - 6) (hN : hNum (lp (y * cf.2.1 + 1)) = n) (hbr : gA σ 134 0 y = 0) (hw : 2 ≤ gA σ 133 0 y)
    (hc : (whB tv cf σ lp y ∧ (gA τ 258 o n = -1 ∨ hSer (lp (gA τ 258 o n * cf.2.1 + 1)) < hSer (lp (y * cf.2.1 + 1))) ∧ gA υ 258 o = upF (gA τ 258 o) n y ∧ ∀ x, 0 ≤ x → gA υ 259 o x = if x = y then n else if x = gA τ 258 o n then -2 else gA τ 259 o x) ∨ (¬ (whB tv cf σ lp y ∧ (gA τ 258 o n = -1 ∨ hSer (lp (gA τ 258 o n * cf.2.1 + 1)) < hSer (lp (y * cf.2.1 + 1)))) ∧ gA υ 258 o = gA τ 258 o ∧ ∀ x, gA υ 259 o x = if x = y then -2 else gA τ 259 o x)) : ATI tv cf σ lp o υ (y + 1) := by
  obtain ⟨h1, h2⟩ := h
  have hlt : gA τ 258 o n ≠ y := by
    rcases h1 n hn.1 hn.2 with ⟨w1, w2⟩ | ⟨w1, w2, w3⟩
    · omega
    · omega
  rcases hc with ⟨k1, k2, k3, k4⟩ | ⟨k1, k3, k4⟩
  · refine ⟨fun m m0 m1 => ?_, fun b b0 b1 => ?_⟩
    · rw [k3]; unfold upF
      by_cases e : m = n
      · rw [if_pos e, e]
        refine Or.inr ⟨by omega, ⟨hbr, hw, hN, k1⟩, fun b b0 b1 bs q => Or.inl ?_⟩
        rcases h1 n hn.1 hn.2 with ⟨w1, w2⟩ | ⟨w1, w2, w3⟩
        · exact absurd q (w2 b b0 (by omega))
        · have k2' : hSer (lp (gA τ 258 o n * cf.2.1 + 1)) < hSer (lp (y * cf.2.1 + 1)) := by
            rcases k2 with z | z
            · omega
            · exact z
          by_cases e2 : b = gA τ 258 o n
          · rw [e2]; exact k2'
          · have := w3 b b0 (by omega) e2 q
            omega
      · rw [if_neg e]
        rcases h1 m m0 m1 with ⟨w1, w2⟩ | ⟨w1, w2, w3⟩
        · refine Or.inl ⟨w1, fun b b0 b1 q => ?_⟩
          by_cases e2 : b = y
          · rw [e2] at q; exact e (clm_c q hN)
          · exact w2 b b0 (by omega) q
        · refine Or.inr ⟨by omega, w2, fun b b0 b1 bs q => ?_⟩
          by_cases e2 : b = y
          · rw [e2] at q; exact absurd (clm_c q hN) e
          · exact w3 b b0 (by omega) bs q
    · rw [k3, k4 b b0]; unfold upF
      by_cases e : b = y
      · rw [if_pos e, e, hN, if_pos rfl, if_pos rfl]
        exact ⟨fun q => absurd hbr q, fun _ q => by omega, fun _ _ => rfl⟩
      · rw [if_neg e]
        obtain ⟨g1, g2, g3⟩ := h2 b b0 (by omega)
        by_cases e2 : b = gA τ 258 o n
        · rw [if_pos e2]
          rcases h1 n hn.1 hn.2 with ⟨w1, w2⟩ | ⟨w1, w2, w3⟩
          · omega
          · rw [← e2] at w2
            obtain ⟨v1, v2, v3, v4⟩ := w2
            refine ⟨fun q => absurd v1 q, fun _ q => by omega, fun _ _ => ?_⟩
            rw [v3, if_pos rfl, if_neg (fun q => e q.symm)]
        · rw [if_neg e2]
          refine ⟨g1, g2, fun a c => ?_⟩
          rw [g3 a c]
          by_cases e3 : hNum (lp (b * cf.2.1 + 1)) = n
          · rw [e3, if_pos rfl, if_neg (fun q => e2 q.symm), if_neg (fun q => e q.symm)]
          · rw [if_neg e3]
  · refine ⟨fun m m0 m1 => ?_, fun b b0 b1 => ?_⟩
    · rw [k3]
      rcases h1 m m0 m1 with ⟨w1, w2⟩ | ⟨w1, w2, w3⟩
      · refine Or.inl ⟨w1, fun b b0 b1 q => ?_⟩
        by_cases e2 : b = y
        · rw [e2] at q
          have e := clm_c q hN
          rw [e] at w1
          exact k1 ⟨q.2.2.2, Or.inl w1⟩
        · exact w2 b b0 (by omega) q
      · refine Or.inr ⟨by omega, w2, fun b b0 b1 bs q => ?_⟩
        by_cases e2 : b = y
        · rw [e2] at q ⊢
          have e := clm_c q hN
          rw [e] at w1 ⊢
          have : ¬ hSer (lp (gA τ 258 o n * cf.2.1 + 1)) < hSer (lp (y * cf.2.1 + 1)) := fun z => k1 ⟨q.2.2.2, Or.inr z⟩
          omega
        · exact w3 b b0 (by omega) bs q
    · rw [k3, k4 b]
      by_cases e : b = y
      · rw [if_pos e, e, hN, if_neg hlt]
        exact ⟨fun q => absurd hbr q, fun _ q => by omega, fun _ _ => rfl⟩
      · rw [if_neg e]; exact h2 b b0 (by omega)
theorem sp_attach0 {tv : Nat → Int} {cf : Cf} (hc : CfOK cf) {σ : St} (hrk : RK σ) {lp : Int → Int → Int} {o T : Int} {Q : St → Prop} {er : Int → Int} (hF : FlI cf σ lp) (hT : 0 ≤ T)
    (hA : ∀ b, 0 ≤ b → b < cf.1 → gA σ 134 0 b = 0 → (1 ≤ gA σ 133 0 b ∧ erH tv (lp (b * cf.2.1 + 0)) (er b) ∧ 1 ≤ er b) ∧ (2 ≤ gA σ 133 0 b → hdV tv (lp (b * cf.2.1 + 1)) ∧ (0 ≤ hNum (lp (b * cf.2.1 + 1)) ∧ hNum (lp (b * cf.2.1 + 1)) < cf.1 - 6) ∧ 0 ≤ hPgs (lp (b * cf.2.1 + 1)) ∧ hSer (lp (b * cf.2.1 + 1)) ≤ T))
    (hQ : ∀ τ, Fr (mAt o) σ τ → RK τ → ATI tv cf σ lp o τ cf.1 → gI τ 265 o = -1 → (∀ b, 0 ≤ b → b < cf.1 → gA σ 134 0 b = 0 → gA τ 260 o b = er b) → (0 ≤ gI τ 261 o ∧ gI τ 261 o ≤ T) → (∀ b, 0 ≤ b → b < cf.1 → gA σ 134 0 b = 0 → 2 ≤ gA σ 133 0 b → hSer (lp (b * cf.2.1 + 1)) ≤ gI τ 261 o) → Q τ) : wp_Blocks_attach cf tv o Q σ := by
  have hP : 8 ≤ cf.2.1 ∧ cf.2.1 ≤ 32 := hc.2.1
  have hB : 24 ≤ cf.1 ∧ cf.1 ≤ 64 := hc.1
  have nr : ∀ f o', ((f < 135 ∨ 135 < f) ∧ f ≠ 262 ∧ f ≠ 263 ∧ (f < 269 ∨ 273 < f)) → ¬ mRd o f o' := fun f o' a q => by unfold mRd at q; omega
  have nA : ∀ f o', (f < 135) → ¬ mAt o f o' := fun f o' a q => by unfold mAt at q; omega
  unfold wp_Blocks_attach
  have haln : aln cf 258 o = cf.1 - 6 := rfl
  rw [fill2_1]
  refine sp_fill1 (by rw [haln]; omega) (by rw [haln]; omega) (fun k0 σ1 e1 σ2 e2 => ?_)
  have f2 : Fr (mAt o) σ σ2 := by
    rw [e2, e1]
    exact (((Fr.rf _ _).sAr (Or.inr ⟨by omega, rfl⟩)).sI (Or.inr ⟨by omega, rfl⟩)).sI (Or.inr ⟨by omega, rfl⟩)
  have m2 : gI σ2 265 o = -1 := by rw [e2, gI_sI, if_neg (fun q => absurd q.1 (by decide)), e1, gI_sI, if_pos ⟨rfl, rfl⟩]
  have s2 : gI σ2 261 o = 0 := by rw [e2, gI_sI, if_pos ⟨rfl, rfl⟩]
  have b2 : ∀ n, 0 ≤ n → n < cf.1 - 6 → gA σ2 258 o n = -1 := by
    intro n n0 n1
    rw [e2, gA_sI, e1, gA_sI, gA_sAr, if_pos ⟨rfl, rfl⟩, if_pos ⟨n0, by rw [haln]; exact n1⟩]
  have k2 : RK σ2 := by
    rw [e2, e1]
    exact (k0.sI (by show rI (-1); unfold rI; omega)).sI (by show rJ 0; unfold rJ; omega)
  clear e1 e2
  refine lQ3_rule (fun y1 y3 y4 τ => (0 ≤ y4 ∧ y4 ≤ cf.1) ∧ Fr (mAt o) σ τ ∧ RK τ ∧ gI τ 265 o = -1 ∧ gI τ 261 o = 0 ∧ (∀ n, 0 ≤ n → n < cf.1 - 6 → gA τ 258 o n = -1) ∧ ∀ b, 0 ≤ b → b < y4 → gA σ 134 0 b = 0 → gA τ 260 o b = er b) (fun _ _ y4 _ => (cf.1 - y4).toNat) ?_ 0 0 0 σ2 ⟨by omega, f2, k2, m2, s2, b2, fun b b0 b1 => by omega⟩
  intro K y1 y3 y4 τ hI hK
  obtain ⟨hy, fr, rk, m, s, bo, ee⟩ := hI
  unfold wp_Blocks_attach_L25
  refine ⟨fun q => ?_, fun q => ?_⟩
  rotate_left
  · have hb : 0 ≤ y4 ∧ y4 < cf.1 := by omega
    have next : ∀ t υ, Fr (mRd o) τ υ → RK υ → rI t → (gA σ 134 0 y4 = 0 → t = er y4) → wp_Blocks_attach_b65 cf tv o Q K y1 y3 y4 t y4 υ := by
      intro t υ f k rt te
      unfold wp_Blocks_attach_b65
      refine ⟨hb, fun σ' e' => ?_⟩
      have k' : RK σ' := by rw [e']; exact k.sA rt
      have f' : Fr (mAt o) σ σ' := by rw [e']; exact (fr.tr (f.mono (mAt_rd o))).sA (Or.inr ⟨by omega, rfl⟩)
      have go : ∀ t0, wp_Blocks_attach_b90 cf tv o Q K y3 y4 t0 y1 σ' := by
        intro t0
        unfold wp_Blocks_attach_b90
        intro y1' _
        refine ⟨hb, fun y3' _ y4' e4 => ?_⟩
        rw [w32_id (by unfold rI; omega)] at e4
        rw [e4]
        refine hK _ _ _ _ ⟨by omega, f', k', ?_, ?_, fun n n0 n1 => ?_, fun b b0 b1 br => ?_⟩ (by omega)
        · rw [e', gI_sA, f.i 265 o (nr _ _ (by decide))]; exact m
        · rw [e', gI_sA, f.i 261 o (nr _ _ (by decide))]; exact s
        · rw [e', sA_of (by decide), f.a 258 o (nr _ _ (by decide))]; exact bo n n0 n1
        · rw [e', sA_if, f.a 260 o (nr _ _ (by decide))]
          by_cases e : b = y4
          · rw [if_pos e, te (by rw [← e]; exact br), e]
          · rw [if_neg e]; exact ee b b0 (by omega) br
      exact ⟨hb, fun _ => ⟨hb, go _⟩, fun _ => go _⟩
    have wb : gA τ 134 0 = gA σ 134 0 := fr.a _ _ (nA _ _ (by decide))
    have ww : gA τ 133 0 = gA σ 133 0 := fr.a _ _ (nA _ _ (by decide))
    unfold wp_Flash_isBroken
    rw [wb]
    refine ⟨hb, fun _ _ => ⟨fun br => ?_, fun br => ?_⟩⟩
    · have ha := (hA y4 hb.1 hb.2 br).1
      refine sp_readErased hc (hF.fr fr (fun f a c => nA f 0 (by omega))) hb (fun r υ g1 _ f rr k => next r υ f k rr (fun _ => ?_))
      exact g1 (by rw [ww]; exact ha.1) _ ha.2.1
    · exact next (-1) τ (Fr.rf _ _) rk (by unfold rI; omega) (fun z => absurd z br)
  · -- the second loop
    refine lQ3_rule (fun _ _ z4 υ => (0 ≤ z4 ∧ z4 ≤ cf.1) ∧ Fr (mAt o) σ υ ∧ RK υ ∧ ATI tv cf σ lp o υ z4 ∧ gI υ 265 o = -1 ∧ (∀ b, 0 ≤ b → b < cf.1 → gA σ 134 0 b = 0 → gA υ 260 o b = er b) ∧ (0 ≤ gI υ 261 o ∧ gI υ 261 o ≤ T) ∧ (∀ b, 0 ≤ b → b < z4 → gA σ 134 0 b = 0 → 2 ≤ gA σ 133 0 b → hSer (lp (b * cf.2.1 + 1)) ≤ gI υ 261 o)) (fun _ _ z4 _ => (cf.1 - z4).toNat) ?_ y1 y3 0 τ ⟨by omega, fr, rk, ⟨fun n n0 n1 => Or.inl ⟨bo n n0 n1, fun b b0 b1 => by omega⟩, fun b b0 b1 => by omega⟩, m, fun b b0 b1 => ee b b0 (by omega), by omega, fun b b0 b1 => by omega⟩
    clear hK rk m s bo ee q hy fr
    intro K2 z1 z3 z4 υ hI hK
    obtain ⟨hz, fr, rk, at', m, ee, ss, sl⟩ := hI
    unfold wp_Blocks_attach_L120
    refine ⟨fun q => ?_, fun q => ?_⟩
    · have e : z4 = cf.1 := by omega
      rw [e] at at' sl
      exact hQ υ fr rk at' m ee ss sl
    have hb : 0 ≤ z4 ∧ z4 < cf.1 := by omega
    have nx : ∀ υ', ATI tv cf σ lp o υ' (z4 + 1) → Fr (mAt o) σ υ' → RK υ' → gI υ' 265 o = -1 → (∀ b, 0 ≤ b → b < cf.1 → gA σ 134 0 b = 0 → gA υ' 260 o b = er b) → (0 ≤ gI υ' 261 o ∧ gI υ' 261 o ≤ T) → (∀ b, 0 ≤ b → b < z4 + 1 → gA σ 134 0 b = 0 → 2 ≤ gA σ 133 0 b → hSer (lp (b * cf.2.1 + 1)) ≤ gI υ' 261 o) → wp_Blocks_attach_b260 cf tv o Q K2 z1 z3 z4 υ' := by
      intro υ' a1 a2 a3 a4 a5 a6 a7
      unfold wp_Blocks_attach_b260
      intro y e
      rw [w32_id (by unfold rI; omega)] at e
      rw [e]
      exact hK _ _ _ _ ⟨by omega, a2, a3, a1, a4, a5, a6, a7⟩ (by omega)
    have b175 : ∀ y5 υ, ATI tv cf σ lp o υ z4 → Fr (mAt o) σ υ → RK υ → gI υ 265 o = -1 → (∀ b, 0 ≤ b → b < cf.1 → gA σ 134 0 b = 0 → gA υ 260 o b = er b) → (0 ≤ gI υ 261 o ∧ gI υ 261 o ≤ T) → (∀ b, 0 ≤ b → b < z4 → gA σ 134 0 b = 0 → 2 ≤ gA σ 133 0 b → hSer (lp (b * cf.2.1 + 1)) ≤ gI υ 261 o) → (gA σ 134 0 z4 = 0 → y5 ≠ 0) → wp_Blocks_attach_b175 cf tv o Q K2 z1 z3 z4 y5 υ := by
      intro y5 υ a1 a2 a3 a4 a5 a6 a7 a8
      have wb : gA υ 134 0 = gA σ 134 0 := a2.a _ _ (nA _ _ (by decide))
      have ww : gA υ 133 0 = gA σ 133 0 := a2.a _ _ (nA _ _ (by decide))
      have Fu : FlI cf υ lp := hF.fr a2 (fun f a c => nA f 0 (by omega))
      unfold wp_Blocks_attach_b175 wp_Flash_isBroken wp_Flash_written
      rw [wb]
      refine ⟨hb, fun _ _ => ⟨fun br => ⟨fun z => absurd z (a8 br), fun z => ⟨hb, fun _ _ => ?_⟩⟩, fun br => ⟨hb, fun σ' e' => ?_⟩⟩⟩
      · rw [ww]
        obtain ⟨ha1, ha2⟩ := hA z4 hb.1 hb.2 br
        refine ⟨fun w => ?_, fun w => ⟨hb, fun σ' e' => ?_⟩⟩
        · have w2 : 2 ≤ gA σ 133 0 z4 := by omega
          obtain ⟨v1, v2, v3, v4⟩ := ha2 w2
          unfold wp_Blocks_attach_b228
          refine ⟨fun y => absurd y z, fun _ => ?_⟩
          refine sp_readHead hc Fu hb (fun r υ2 rz g1 g2 fh _ k2 => ?_)
          rw [ww] at g1 g2
          obtain ⟨q1, q2, q3, q4, q5⟩ := g2 w2
          have r1 : r = 1 := g1.mpr ⟨w2, v1, v2.1, v2.2⟩
          refine ⟨fun y => by omega, fun _ => ?_⟩
          have bo2 : gA υ2 258 o = gA υ 258 o := fh.a _ _ (nr _ _ (by decide))
          have ca2 : gA υ2 259 o = gA υ 259 o := fh.a _ _ (nr _ _ (by decide))
          have w22 : gA υ2 133 0 = gA σ 133 0 := (fh.a _ _ (nr _ _ (by decide))).trans ww
          have se2 : gI υ2 261 o = gI υ 261 o := fh.i _ _ (nr _ _ (by decide))
          have wh : whB tv cf υ2 lp z4 ↔ whB tv cf σ lp z4 := by unfold whB; rw [w22]
          refine sp_claim hc (Fu.fr fh (fun f a c q => by unfold mRd at q; omega)) hb (by rw [w22]; exact w2) v2 v3 rfl q1 q2 q3 q4 q5 ?_ (fun τ' ft st ct kt => ?_)
          · intro ne
            rw [bo2, w22] at *
            rcases a1.1 _ v2.1 v2.2 with w | w
            · exact absurd w.1 ne
            · exact ⟨by have := w.1; omega, w.2.1.2.1⟩
          · rw [wh, bo2, ca2] at ct
            have nC : ∀ f o', (f = 265 ∨ f = 260) → ¬ mCl o f o' := fun f o' a q => by unfold mCl mRd at q; omega
            refine nx τ' (a1.claim hb.1 v2 rfl br w2 ct) (a2.tr ((fh.mono (mAt_rd o)).tr (ft.mono (fun f o' q => by unfold mCl mRd at q; unfold mAt; omega)))) kt ?_ ?_ ?_ ?_
            · rw [ft.i 265 o (nC _ _ (by decide)), fh.i 265 o (nr _ _ (by decide))]; exact a4
            · intro b b0 b1 bb
              rw [ft.a 260 o (nC _ _ (by decide)), fh.a 260 o (nr _ _ (by decide))]; exact a5 b b0 b1 bb
            · rw [st, se2]; omega
            · intro b b0 b1 bb bw
              rw [st, se2]
              by_cases e : b = z4
              · rw [e]; omega
              · have := a7 b b0 (by omega) bb bw
                omega
        · rw [e']
          refine nx _ (a1.other (c := -1) ?_ (fun x => sA_if) (fun n q => by have := q.2.1; omega) (fun y => absurd br y) (fun _ => ⟨w, rfl⟩)) (a2.sA (Or.inr ⟨by omega, rfl⟩)) (a3.sA (by show rI (-1); unfold rI; omega)) a4 ?_ a6 ?_
          · funext x; rw [sA_of (by decide)]
          · intro b b0 b1 bb; rw [sA_of (by decide)]; exact a5 b b0 b1 bb
          · intro b b0 b1 bb bw
            rw [gI_sA]
            by_cases e : b = z4
            · rw [e] at bw; omega
            · exact a7 b b0 (by omega) bb bw
      · rw [e']
        refine nx _ (a1.other (c := -3) ?_ (fun x => sA_if) (fun n q => br q.1) (fun y => rfl) (fun y => absurd y br)) (a2.sA (Or.inr ⟨by omega, rfl⟩)) (a3.sA (by show rI (-3); unfold rI; omega)) a4 ?_ a6 ?_
        · funext x; rw [sA_of (by decide)]
        · intro b b0 b1 bb; rw [sA_of (by decide)]; exact a5 b b0 b1 bb
        · intro b b0 b1 bb bw
          rw [gI_sA]
          by_cases e : b = z4
          · rw [e] at bb; exact absurd bb br
          · exact a7 b b0 (by omega) bb bw
    have b174 : gA σ 134 0 z4 ≠ 0 → ∀ t y5, rI t → wp_Blocks_attach_b174 cf tv o Q (wp_Blocks_attach_b175 cf tv o Q K2) z1 z3 z4 y5 t z4 υ := by
      intro br t y5 rt
      unfold wp_Blocks_attach_b174
      refine ⟨hb, fun σ' e' => ?_⟩
      rw [e']
      refine b175 y5 _ ⟨fun n n0 n1 => ?_, fun b b0 b1 => ?_⟩ (fr.sA (Or.inr ⟨by omega, rfl⟩)) (rk.sA rt) m ?_ ss sl (fun y => absurd y br)
      · rw [sA_of (by decide)]; exact at'.1 n n0 n1
      · rw [sA_of (by decide), sA_of (by decide)]; exact at'.2 b b0 b1
      · intro b b0 b1 bb
        rw [sA_ne (fun e => br (by rw [← e]; exact bb))]; exact ee b b0 b1 bb
    refine ⟨hb, fun y5 e5 => ⟨fun w => b175 y5 υ at' fr rk m ee ss sl (fun _ => w), fun w => ?_⟩⟩
    have br : gA σ 134 0 z4 ≠ 0 := by
      intro br
      have e1 := ee z4 hb.1 hb.2 br
      have e2 := (hA z4 hb.1 hb.2 br).1.2.2
      rw [e1, if_neg (by omega)] at e5
      omega
    exact ⟨fun v => ⟨v, b174 br _ y5 (w32_r _)⟩, fun _ => b174 br 0 y5 (by unfold rI; omega)⟩
