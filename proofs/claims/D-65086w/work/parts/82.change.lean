/-! a number has other pages, by rule -/
theorem BI.wait {tv : Nat → Int} {cf : Cf} {σ : St} {o : Int} {lp : Int → Int → Int} {vw : Int → Int} {vp : Int → Int → Int → Int} {Sp : Int → Int → (Int → Int → Int) → Prop} {T : Int} (hc : CfOK cf) {s : Int} (h : BI tv cf σ o lp vw vp Sp T (OneE s)) (hnb : ∀ n, 0 ≤ n → n < cf.1 - 6 → gA σ 258 o n ≠ s) (ht : gI σ 265 o = -1 ∨ gI σ 266 o ≠ s) (hA : BA tv cf σ o lp T (fun x => x ≠ s)) (hbr : gA σ 134 0 s = 0) (hD : ∀ b, 0 ≤ b → b < cf.1 → b ≠ s → 0 ≤ gA σ 259 o b → 2 ≤ gA σ 133 0 s → hNum (lp (s * cf.2.1 + 1)) = gA σ 259 o b → whB tv cf σ lp s → hSer (lp (s * cf.2.1 + 1)) < hSer (lp (b * cf.2.1 + 1))) (hL : 2 ≤ gA σ 133 0 s → whB tv cf σ lp s → ∃ pg : Int → Int → Int, (∀ w, 0 ≤ w → w ≤ gA σ 133 0 s - 2 → Sp (hNum (lp (s * cf.2.1 + 1))) w pg) ∧ ∀ k, 0 ≤ k → k < gA σ 133 0 s - 2 → ∀ i, 0 ≤ i → i < 128 → lp (s * cf.2.1 + (2 + k)) i = pg k i) : BI tv cf (sA σ 259 o s (-2)) o lp vw vp Sp T NoE := by
  have h10 := h.2.2.2.2.2.2.2.2.2
  have h9 := h.2.2.2.2.2.2.2.2.1
  have fr : Fr (fun f o' => f = 259 ∧ o' = o) σ (sA σ 259 o s (-2)) := (Fr.rf _ _).sA ⟨rfl, rfl⟩
  have nc : ∀ f o', f ≠ 259 → ¬ (f = 259 ∧ o' = o) := fun f o' a q => a q.1
  generalize he : sA σ 259 o s (-2) = τ at *
  have cx : ∀ x, gA τ 259 o x = if x = s then -2 else gA σ 259 o x := fun x => by rw [← he, sA_if]
  have ew := fr.a 133 0 (nc _ _ (by decide))
  have eb := fr.a 134 0 (nc _ _ (by decide))
  have ee := fr.a 260 o (nc _ _ (by decide))
  have es := fr.i 261 o (nc _ _ (by decide))
  have ef := fr.i 136 0 (nc _ _ (by decide))
  have el := fl_fr fr (nc _ _ (by decide))
  have wh : ∀ b, whB tv cf τ lp b ↔ whB tv cf σ lp b := fun b => by unfold whB; rw [ew]
  unfold BT at h10
  have H1 : BI tv cf τ o lp vw vp Sp T (OneE s) := by
    refine h.step hc rfl hnb ht (fr.mono (fun f o' q => Or.inr ⟨Or.inl (by omega), q.2⟩)) (h.1.fr fr (fun f a c => nc f 0 (by omega))) (fun _ _ _ _ _ => rfl) (fun b' _ => by rw [ew]) (fun b' _ => by rw [eb]) (fun b' q => by rw [cx, if_neg q]) (fun b' _ => by rw [ee]) ⟨by omega, by omega⟩ ⟨Int.le_refl _, h10.2⟩ ?_
    unfold BF brk at h9 ⊢; rw [eb, ef, el]; exact h9
  refine H1.adm (b := s) (fun b' _ ne q => ne q) ?_ ?_ ?_ ?_ ?_
  · intro b b0 b1 bE
    rw [ew, eb, ee, es]
    exact hA b b0 b1 bE
  · intro b b0 b1 bE
    have e : b = s := Classical.byContradiction (fun q => bE q)
    rw [e, cx, if_pos rfl, eb, hbr]
    exact ⟨by omega, fun q => by omega, fun q => by omega, fun q => absurd rfl q, fun q => by omega⟩
  · intro b' b0 b1 bs _ x1 x2 x3 x4 x5
    rw [cx, if_neg bs] at x1 x4
    rw [ew] at x3
    exact Or.inl (Or.inl (hD b' b0 b1 bs x1 x3 x4 ((wh s).mp x5)))
  · intro b' _ _ _ _ z; rw [cx, if_pos rfl] at z; omega
  · intro b b0 b1 bE x1 x2 x3
    have e : b = s := Classical.byContradiction (fun q => bE q)
    rw [e] at x2 x3 ⊢
    rw [ew] at x2 ⊢
    exact Or.inl (hL x2 ((wh s).mp x3))
def rlG (v : Int) : Int → Int → Int := fun k => rlP (w32 (v + w32 (5 * k)))
/-- all that waits and says n is stale -/
theorem BI.stale {tv : Nat → Int} {cf : Cf} {σ : St} {o : Int} {lp : Int → Int → Int} {vw : Int → Int} {vp : Int → Int → Int → Int} {Sp : Int → Int → (Int → Int → Int) → Prop} {T : Int} {n : Int} (h : BI tv cf σ o lp vw vp Sp T NoE) (hn : 0 ≤ n ∧ n < cf.1 - 6) (hS : ∀ w, 0 ≤ w → w ≤ vw n → Sp n w (vp n)) (pg : Int → Int → Int) (k : Int) : WS tv cf σ o lp Sp n pg k := by
  intro y y0 y1 x1 x2 x3 x4
  rcases h.ws (k := vw n) hn (Int.le_refl _) y y0 y1 x1 x2 x3 x4 with q | ⟨q1, q2⟩
  · exact Or.inl q
  · refine Or.inl ⟨vp n, fun w w0 w1 => ?_, q2⟩
    rw [x4]; exact hS w w0 (by omega)
theorem sp_change {tv : Nat → Int} {cf : Cf} {σ : St} {o : Int} {lp : Int → Int → Int} {vw : Int → Int} {vp : Int → Int → Int → Int} {Sp : Int → Int → (Int → Int → Int) → Prop} {T : Int} (hc : CfOK cf) (hrk : RK σ) {n many v : Int} {Q : St → Prop} (h : BI tv cf σ o lp vw vp Sp T NoE) (hn : 0 ≤ n ∧ n < cf.1 - 6) (hmany : 0 ≤ many ∧ many ≤ cf.2.1 - 2) (hS : ∀ w, 0 ≤ w → w ≤ vw n → Sp n w (vp n)) (hT : T + 6 < 1073741824)
    (hQ : ∀ τ lp', BI tv cf τ o lp' (upF vw n many) (upV vp n (rlG v)) Sp (T + 6) NoE → Fr (mBw o) σ τ → RK τ → Q τ) : wp_Blocks_change cf tv o n many v Q σ := by
  have hP : 8 ≤ cf.2.1 ∧ cf.2.1 ≤ 32 := hc.2.1
  have hB : 24 ≤ cf.1 ∧ cf.1 ≤ 64 := hc.1
  have hal := (al128 cf o).2.1
  have ncp : ∀ f o', rBI o f o' → ¬ (f = 263 ∧ o' = o) := fun f o' a q => by unfold rBI at a; omega
  unfold wp_Blocks_change
  refine sp_stopMove hc hrk h hn.1 (fun σ1 H m f1 r1 _ => ?_)
  have main : ∀ ck σ2, Fr (fun f o' => f = 263 ∧ o' = o) σ1 σ2 → RK σ2 → ck = cko tv (rlG v) many.toNat → rI ck → lQ3 (wp_Blocks_change_L59 cf tv o n many v Q) ck (gA σ2 258 o n) 0 σ2 := by
    intro ck σ2 f2 r2 hck rck
    have H2 := H.fr f2 ncp
    have m2 : gI σ2 265 o ≠ n := by rw [f2.i _ _ (ncp 265 o (Or.inr ⟨Or.inr (by decide), rfl⟩))]; exact m
    have fs2 : Fr (mBw o) σ σ2 := (f1.mono (fun f o' q => by unfold mMv at q; unfold mBw; omega)).tr (f2.mono (fun f o' q => by unfold mBw; omega))
    refine lQ3_rule (fun y4 y5 y6 τ => y4 = ck ∧ y5 = gA σ2 258 o n ∧ (y6 ≠ 0 → (y5 = -1 → Q τ) ∧ (¬ y5 = -1 → (0 ≤ y5 ∧ y5 < cf.1) ∧ ∀ σ', σ' = sA τ 259 o y5 (-2) → Q σ')) ∧ (y6 = 0 → ∃ lp1 T1, BI tv cf τ o lp1 vw vp Sp T1 NoE ∧ RK τ ∧ Fr (mSt o) σ2 τ ∧ ((0 ≤ gI τ 136 0 ∧ T1 ≤ T) ∨ (gI τ 136 0 < 0 ∧ T1 ≤ T + 3)))) (fun _ _ y6 τ => if y6 = 0 then (if 0 ≤ gI τ 136 0 then 2 else 1) else 0) ?_ ck _ 0 σ2 ⟨rfl, rfl, fun q => absurd rfl q, fun _ => ⟨lp, T, H2, r2, Fr.rf _ _, by omega⟩⟩
    intro K y4 y5 y τ hI hK
    obtain ⟨e4, e5, hI1, hI2⟩ := hI
    unfold wp_Blocks_change_L59
    refine ⟨fun q => hI1 q, fun q => ?_⟩
    obtain ⟨lp1, T1, h1, h2, h3, h6⟩ := hI2 q
    refine sp_fetch hc h2 h1 (by omega) (fun b σ3 lp2 H3 hb hcb k1 u1 fe r3 _ _ => ⟨fun _ => ?_, fun e => by omega⟩)
    obtain ⟨G, wb⟩ := FI.beg H3 hb hcb
    have bt := H3.2.2.2.2.2.2.2.2.2
    unfold BT at bt
    refine sp_writeHead hc H3.1 hb wb (by unfold rI; omega) (by unfold rZ; omega) (by unfold rI; omega) (by rw [e4]; exact rck) (by omega) (fun r τ1 x rz hF ew es h0 h11 hx fr _ r4 => ?_)
    have nw : ∀ f o', (f = 134 ∨ f = 259 ∨ f = 260) → ¬ (mBp o f o' ∨ (f = 261 ∧ o' = o)) := fun f o' a q => by unfold mBp mFw at q; omega
    have frs : Fr (mSt o) σ3 τ1 := fr.mono (fun f o' q => by unfold mBp mFw at q; unfold mSt; omega)
    obtain ⟨G1, u2, bk2, k2⟩ := G.w hc hb (p := 1) (r := r) (T' := T1 + 3) ⟨by omega, by omega⟩ wb rz hF ew h0 h11 (fr.a _ _ (nw _ _ (by decide))) (fr.a _ _ (nw _ _ (by decide))) (fr.a _ _ (nw _ _ (by decide))) frs ⟨by omega, by omega⟩ ⟨by omega, by omega⟩
    have nofail : ∀ υ, FK τ υ → 0 ≤ gI υ 136 0 → 0 ≤ gI τ 136 0 := fun υ k z => by
      apply Classical.byContradiction
      intro z'
      have := (k (by omega)).1
      omega
    have ws0 : WS tv cf σ3 o lp2 Sp n (rlG v) many := H3.stale hn hS _ _
    refine lQ5_rule (fun z4 z5 y6 y7 y8 υ => z4 = ck ∧ z5 = gA σ2 258 o n ∧ y7 = b ∧ rZ y6 ∧ (0 ≤ y8 ∧ y8 ≤ many) ∧ ∃ lp3, FI tv cf υ o lp3 vw vp Sp (T1 + 3) b (gI σ3 261 o) ∧ UT cf o σ3 lp2 υ lp3 ∧ FK τ υ ∧ RK υ ∧ Fr (mSt o) σ2 υ ∧ gI υ 261 o = gI σ3 261 o + 1 ∧ (y6 = 1 → FB tv cf υ o lp3 b n 1 many ck (rlG v) y8) ∧ (y6 = 0 → brk υ cf.1.toNat + 1 ≤ fl υ ∧ gI υ 136 0 < 0 ∧ 0 ≤ gI τ 136 0)) (fun _ _ _ _ y8 _ => (many - y8).toNat) ?_ y4 y5 r b 0 τ1 ⟨e4, e5, rfl, rz, by omega, _, G1, u2, k1.tr k2, r4, (h3.tr fe).tr frs, es, fun e => ?_, fun e => ⟨bk2 e, (h0 e).2, nofail σ3 k1 (h0 e).1⟩⟩
    · intro K' z4 z5 y6 y7 y8 υ hI' hK'
      obtain ⟨d4, d5, e7, zz, hy8, lp3, g1, g2, g3, g4, g5, g6, g7, g8⟩ := hI'
      have ebo : gA υ 258 o = gA σ2 258 o := g5.a _ _ (mSt_no o _ _ (by decide))
      have emv : gI υ 265 o = gI σ2 265 o := g5.i _ _ (mSt_no o _ _ (by decide))
      have fin : (y6 = 0 ∨ y8 = many) → wp_Blocks_change_b149 cf tv o n many v Q K z4 z5 y6 y7 υ := by
        intro hyy
        unfold wp_Blocks_change_b149 wp_Blocks_change_b179
        rw [e7]
        refine ⟨fun e => ?_, fun e => ⟨hb, fun σ29 e29 => ⟨hn, fun σ30 e30 => ?_⟩⟩⟩
        · obtain ⟨q1, q2, q3⟩ := g8 e
          refine g1.lose hc hb q2 q1 (fun τ' H' u' f' fr' k' => ?_)
          refine hK z4 z5 y6 τ' ⟨d4, d5, fun z => absurd e z, fun _ => ⟨lp3, T1 + 3, H', k', g5.tr fr', Or.inr ⟨f', by omega⟩⟩⟩ ?_
          rw [if_pos e, if_pos q, if_neg (by omega), if_pos q3]; omega
        · have y61 : y6 = 1 := by unfold rZ at zz; omega
          have hy : y8 = many := by omega
          have fb := g7 y61
          rw [hy] at fb
          obtain ⟨w1, w2, w3, w4, w5, w6, w7, w8⟩ := id fb
          have ws := ws0.ut hc g2 g1.1.1
          have whb : whB tv cf υ lp3 b := by
            refine Or.inr ⟨by rw [w6]; omega, ?_⟩
            rw [w6, w7, hck]
            exact cko_ext _ (fun j hj i i0 i1 => w8 j (by omega) (by omega) i i0 i1)
          have D := g1.done hc hb hn fb hmany.1 (by omega) (by omega) hmany.1 whb (by rw [emv]; exact m2) ws
          rw [← e29, ← e30] at D
          obtain ⟨n1, n2⟩ := g1.1.nb hb.1 (Or.inl g1.2.1)
          have n1' := n1 n hn.1 hn.2
          have k30 : RK σ30 := by
            rw [e30, e29]
            exact (g4.sA (by show rI n; unfold rI; omega)).sA (by show rI b; unfold rI; omega)
          have f30 : Fr (mBw o) σ σ30 := by
            refine fs2.tr ((g5.mono (fun f o' q => by unfold mSt at q; unfold mBw; omega)).tr ?_)
            rw [e30, e29]
            exact ((Fr.rf _ _).sA (by unfold mBw; omega)).sA (by unfold mBw; omega)
          refine hK z4 z5 y6 σ30 ⟨d4, d5, fun _ => ⟨fun zo => ?_, fun zo => ?_⟩, fun z => absurd z e⟩ (by rw [if_neg e, if_pos q]; split <;> omega)
          · have eo : gA υ 258 o n = -1 := by rw [ebo, ← d5]; exact zo
            rw [eo] at D
            exact hQ σ30 lp3 ((D.out (by omega)).ex (fun _ z => z) (by omega) hT) f30 k30
          · have eo : gA υ 258 o n = z5 := by rw [ebo]; exact d5.symm
            rw [eo] at D n1'
            have bn : (0 ≤ z5 ∧ z5 < cf.1) ∧ gA υ 259 o z5 = n := by
              rcases g1.1.2.2.2.1 n hn.1 hn.2 with w | w
              · rw [eo] at w; exact absurd w zo
              · rw [eo] at w; exact w
            refine ⟨bn.1, fun σ' e' => ?_⟩
            have f29 : Fr (mCb o) υ σ30 := by rw [e30, e29]; exact ((Fr.rf _ _).sA ⟨Or.inl rfl, rfl⟩).sA ⟨Or.inr rfl, rfl⟩
            have nm : ∀ f : Nat, ∀ o' : Int, f ≠ 259 → f ≠ 258 → ¬ mCb o f o' := fun f o' x y q => by unfold mCb at q; omega
            have xw := f29.a 133 0 (nm _ _ (by decide) (by decide))
            have xb := f29.a 134 0 (nm _ _ (by decide) (by decide))
            have xe := f29.a 260 o (nm _ _ (by decide) (by decide))
            have xs := f29.i 261 o (nm _ _ (by decide) (by decide))
            have xm := f29.i 265 o (nm _ _ (by decide) (by decide))
            have xt := f29.i 266 o (nm _ _ (by decide) (by decide))
            have xc : ∀ y, gA σ30 259 o y = if y = b then n else gA υ 259 o y := fun y => by rw [e30, sA_of (by decide), e29, sA_if]
            have xo : ∀ y, gA σ30 258 o y = if y = n then b else gA υ 258 o y := fun y => by rw [e30, sA_if, e29, sA_of (by decide)]
            have cc := (g1.1.2.2.1 z5 bn.1.1 bn.1.2 n1').2.2.2
            have sbr : gA υ 134 0 z5 = 0 := by
              apply Classical.byContradiction
              intro z
              have := cc.1 z
              omega
            have cc2 := cc.2 (by omega)
            have bv := (g1.1.2.2.2.2.2.2.2.1 n hn.1 hn.2).2 (by rw [eo]; exact zo)
            rw [eo] at bv
            rw [e']
            refine hQ _ lp3 ((D.wait hc ?_ ?_ ?_ ?_ ?_ ?_).ex (fun _ z => z) (by omega) hT) (f30.sA (by unfold mBw; omega)) (k30.sA (by show rI (-2); unfold rI; omega))
            · intro n' n0 n1 e
              rw [xo] at e
              by_cases w : n' = n
              · rw [if_pos w] at e; exact n1' e.symm
              · rw [if_neg w] at e
                rcases g1.1.2.2.2.1 n' n0 n1 with w' | w'
                · omega
                · rw [e, bn.2] at w'; exact w w'.2.symm
            · rw [xm, xt]
              rcases g1.1.2.2.2.2.1 with w | ⟨m', u, s', a1, a2, a3, a4, a5, a6, a7, a8⟩
              · exact Or.inl w
              · exact Or.inr (fun e => by rw [a2] at e; rw [e] at a7; omega)
            · intro y y0 y1 ye
              have e : y = z5 := Classical.byContradiction (fun q => ye q)
              rw [xw, xb, xe, xs, e]
              exact g1.1.2.1 z5 bn.1.1 bn.1.2 n1'
            · rw [xb]; exact sbr
            · intro y y0 y1 ys x1 x2 x3 x4
              rw [xw] at x2
              have sle := g1.2.2.2.2.1 z5 bn.1.1 bn.1.2 n1' sbr x2
              rw [cc2.2.2.2.1, bn.2] at x3
              by_cases w : y = b
              · rw [w, w4]; omega
              · rw [xc, if_neg w] at x3 x1
                have := ((g1.1.2.2.1 y y0 y1 w).2.2.2.2 x1).2.1
                rw [← x3, eo] at this
                exact absurd this.symm ys
            · intro x1 x2
              rw [xw, cc2.2.2.2.1, bn.2]
              exact ⟨vp n, fun w w0 w1 => hS w w0 (by omega), fun j j0 j1 i i0 i1 => (bv.2 j j0 (by omega) i i0 i1).symm⟩
      unfold wp_Blocks_change_L102
      refine ⟨fun z => fin (Or.inr (by omega)), fun z => ⟨fun e => fin (Or.inl e), fun e => ?_⟩⟩
      have y61 : y6 = 1 := by unfold rZ at zz; omega
      have fb := g7 y61
      refine sp_rule g4 (fun υ1 ea fa ra _ => ?_)
      rw [w32_id (x := 2 + y8) (by unfold rI; omega), e7]
      have G2 := g1.fr fa ncp
      have FB2 := fb.fr fa ncp
      refine sp_flash_write hc G2.1.1 ra hb FB2.1.symm (by omega) (Or.inr (by decide)) (by decide) (by omega) (by rw [hal]; omega) (fun r' υ2 x' rz' hF' ew' q0 q1 q2 fw _ rk' => ?_)
      intro y9 hy9
      rw [w32_id (by unfold rI; omega)] at hy9
      rw [hy9]
      have nv : ∀ f o', (f = 134 ∨ 136 < f) → ¬ mFw f o' := fun f o' a q => by unfold mFw at q; omega
      have fws : Fr (mSt o) υ1 υ2 := fw.mono (fun f o' q => by unfold mFw at q; unfold mSt; omega)
      have fas : Fr (mSt o) υ υ1 := fa.mono (fun f o' q => by unfold mSt; omega)
      have es2 : gI υ2 261 o = gI υ1 261 o := fw.i _ _ (nv _ _ (by decide))
      have es1 : gI υ1 261 o = gI υ 261 o := fa.i _ _ (ncp _ _ (Or.inr ⟨Or.inl (by decide), rfl⟩))
      have bt1 := G2.1.2.2.2.2.2.2.2.2.2
      unfold BT at bt1
      obtain ⟨G3, u3, bk3, k3⟩ := G2.w hc hb (p := 2 + y8) (r := r') (T' := T1 + 3) ⟨by omega, by omega⟩ FB2.1 rz' hF' ew' q0 q1 (fw.a _ _ (nv _ _ (by decide))) (fw.a _ _ (nv _ _ (by decide))) (fw.a _ _ (nv _ _ (by decide))) fws ⟨by omega, by omega⟩ ⟨by omega, by omega⟩
      have ka : FK υ υ1 := FK.fr fa (ncp _ _ (Or.inl ⟨Or.inr (Or.inl rfl), rfl⟩)) (ncp _ _ (Or.inl ⟨Or.inl (by decide), rfl⟩))
      refine hK' z4 z5 r' b (y8 + 1) υ2 ⟨d4, d5, rfl, rz', by omega, _, G3, (g2.tr (UT.fr fa ncp)).tr u3, (g3.tr ka).tr k3, rk', (g5.tr fas).tr fws, by omega, fun e1 => ?_, fun e0 => ⟨bk3 e0, (q0 e0).2, nofail υ1 (g3.tr ka) (q0 e0).1⟩⟩ (by omega)
      refine FB2.nx hc ⟨by omega, by omega⟩ ew' es2 (fun i i0 i1 => ?_)
      rw [q2 e1 i i0 i1, show (0 : Int) + i = i by omega, ea i i0 i1]
      rfl
    · obtain ⟨x1, x2, x3, x4, x5, x6⟩ := hx e
      unfold FB
      rw [upP_at]
      exact ⟨by rw [ew]; unfold upF; rw [if_pos rfl]; omega, x1, x2, by rw [x3]; exact es.symm, x4, x5, by rw [x6]; exact e4, fun j j0 j1 => by omega⟩
  refine lQ2_rule (fun y4 y5 τ => Fr (fun f o' => f = 263 ∧ o' = o) σ1 τ ∧ RK τ ∧ rI y4 ∧ ∃ k : Nat, y5 = k ∧ (k : Int) ≤ many ∧ y4 = cko tv (rlG v) k) (fun _ y5 _ => (many - y5).toNat) ?_ (-1) 0 σ1 ⟨Fr.rf _ _, r1, by unfold rI; omega, 0, rfl, by omega, rfl⟩
  intro K y4 y5 τ hI hK
  obtain ⟨i1, i2, i3, k, rfl, i4, i5⟩ := hI
  unfold wp_Blocks_change_L11
  refine ⟨fun q => ⟨hn, fun y e => ?_⟩, fun q => ?_⟩
  · rw [e]
    exact main y4 τ i1 i2 (by rw [i5]; congr 1; omega) i3
  · refine sp_rule i2 (fun τ1 ea fa ra _ => ?_)
    refine sp_check (by omega) (by omega) (by rw [hal]; omega) (by omega) (fun rr _ => ?_)
    intro y hy
    rw [w32_id (by unfold rI; omega)] at hy
    rw [hy]
    refine hK _ _ _ ⟨i1.tr fa, ra, rr, k + 1, by omega, by omega, ?_⟩ (by omega)
    show ckf tv (gA τ1 263 o) 128 0 _ = ckf tv (rlG v k) 128 0 _
    rw [i5]
    refine ckf_ext 128 0 0 _ (fun i a c => ?_)
    rw [show (0 : Int) + i = i by omega, ea i a (by omega)]
    rfl
