/-! erasing -/
def mSt (o : Int) (f : Nat) (o' : Int) : Prop := ((130 ≤ f ∧ f ≤ 136) ∧ o' = 0) ∨ (((259 ≤ f ∧ f ≤ 263) ∨ (269 ≤ f ∧ f ≤ 273)) ∧ o' = o)
theorem upP_ne {cf : Cf} (hc : CfOK cf) {lp : Int → Int → Int} {b p0 : Int} {x : Int → Int} (hp0 : 0 ≤ p0 ∧ p0 < cf.2.1) : ∀ b' p, b' ≠ b → 0 ≤ p → p < cf.2.1 → upP lp (b * cf.2.1 + p0) x (b' * cf.2.1 + p) = lp (b' * cf.2.1 + p) := by
  intro b' p ne a c
  unfold upP
  rw [if_neg (fun q => ne (pix_inj hc ⟨a, c⟩ hp0 q).1)]
theorem upP_at (lp : Int → Int → Int) (t : Int) (x : Int → Int) : upP lp t x t = x := by unfold upP; rw [if_pos rfl]
theorem BI.step {tv : Nat → Int} {cf : Cf} {σ : St} {o : Int} {lp : Int → Int → Int} {vw : Int → Int} {vp : Int → Int → Int → Int} {Sp : Int → Int → (Int → Int → Int) → Prop} {T : Int} (hc : CfOK cf) {τ : St} {b : Int} {lp' : Int → Int → Int} {T' : Int} {E : Int → Prop} (h : BI tv cf σ o lp vw vp Sp T E) (hE : E b) (hnb : ∀ n, 0 ≤ n → n < cf.1 - 6 → gA σ 258 o n ≠ b) (ht : gI σ 265 o = -1 ∨ gI σ 266 o ≠ b) (fr : Fr (mSt o) σ τ) (hF : FlI cf τ lp') (hl : ∀ b' p, b' ≠ b → 0 ≤ p → p < cf.2.1 → lp' (b' * cf.2.1 + p) = lp (b' * cf.2.1 + p)) (hw : ∀ b', b' ≠ b → gA τ 133 0 b' = gA σ 133 0 b') (hr : ∀ b', b' ≠ b → gA τ 134 0 b' = gA σ 134 0 b') (hca : ∀ b', b' ≠ b → gA τ 259 o b' = gA σ 259 o b') (her : ∀ b', b' ≠ b → gA τ 260 o b' = gA σ 260 o b') (hs : gI σ 261 o ≤ gI τ 261 o ∧ gI τ 261 o ≤ T') (hT : T ≤ T' ∧ T' < 1073741824) (hBF : BF cf τ) : BI tv cf τ o lp' vw vp Sp T' E := by
  have nm : ∀ f : Nat, ∀ o' : Int, (f = 258 ∨ (265 ≤ f ∧ f ≤ 268)) → ¬ mSt o f o' := by
    intro f o' a q
    unfold mSt at q
    omega
  exact h.upd hc hE hnb ht hF hl hw hr hca her (fr.a _ _ (nm _ _ (by decide))) ⟨fr.i _ _ (nm _ _ (by decide)), fr.i _ _ (nm _ _ (by decide)), fr.i _ _ (nm _ _ (by decide)), fr.i _ _ (nm _ _ (by decide))⟩ hs hT hBF
theorem BI.nb {tv : Nat → Int} {cf : Cf} {σ : St} {o : Int} {lp : Int → Int → Int} {vw : Int → Int} {vp : Int → Int → Int → Int} {Sp : Int → Int → (Int → Int → Int) → Prop} {T : Int} {E : Int → Prop} (h : BI tv cf σ o lp vw vp Sp T E) {b : Int} (hb0 : 0 ≤ b) (hb : gA σ 259 o b = -1 ∨ gA σ 259 o b = -2) : (∀ n, 0 ≤ n → n < cf.1 - 6 → gA σ 258 o n ≠ b) ∧ (gI σ 265 o = -1 ∨ gI σ 266 o ≠ b) := by
  obtain ⟨h1, h2, h3, h4, h5, h6, h7, h8, h9, h10⟩ := h
  refine ⟨fun n n0 n1 e => ?_, ?_⟩
  · rcases h4 n n0 n1 with q | ⟨q1, q2⟩
    · omega
    · rw [e] at q2; omega
  · rcases h5 with q | ⟨n, t, s, a1, a2, a3, a4, a5, a6, a7, a8⟩
    · exact Or.inl q
    · exact Or.inr (fun e => by rw [e] at a2; subst a2; omega)
/-- erasing: free, or lost -/
theorem sp_erase {tv : Nat → Int} {cf : Cf} {σ : St} {o : Int} {lp : Int → Int → Int} {vw : Int → Int} {vp : Int → Int → Int → Int} {Sp : Int → Int → (Int → Int → Int) → Prop} {T : Int} (hc : CfOK cf) (hrk : RK σ) {E E' : Int → Prop} {b : Int} {Q : St → Prop} (h : BI tv cf σ o lp vw vp Sp T E) (hb : 0 ≤ b ∧ b < cf.1) (hE : E b) (hE' : ∀ b', ¬ E' b' → b' ≠ b → ¬ E b') (hnb : ∀ n, 0 ≤ n → n < cf.1 - 6 → gA σ 258 o n ≠ b) (ht : gI σ 265 o = -1 ∨ gI σ 266 o ≠ b) (her : 0 ≤ gA σ 260 o b ∧ gA σ 260 o b ≤ T) (hbr : gA σ 134 0 b = 0) (hT : T + 1 < 1073741824)
    (hQ : ∀ τ lp', BI tv cf τ o lp' vw vp Sp (T + 1) E' → (∀ b', b' ≠ b → gA τ 259 o b' = gA σ 259 o b') → (∀ b', b' ≠ b → gA τ 134 0 b' = gA σ 134 0 b') → (∀ b', b' ≠ b → gA τ 260 o b' = gA σ 260 o b') → gI τ 261 o = gI σ 261 o → (∀ b', b' ≠ b → gA τ 133 0 b' = gA σ 133 0 b') → (∀ b' p, b' ≠ b → 0 ≤ p → p < cf.2.1 → lp' (b' * cf.2.1 + p) = lp (b' * cf.2.1 + p)) → ((gA τ 259 o b = -1 ∧ gA τ 134 0 b = 0 ∧ (0 ≤ gI τ 136 0 ↔ 0 ≤ gI σ 136 0)) ∨ (gA τ 259 o b = -3 ∧ 0 ≤ gI σ 136 0 ∧ gI τ 136 0 < 0)) → Fr (mSt o) σ τ → Q τ) : wp_Blocks_erase cf tv o b Q σ := by
  have hP : 8 ≤ cf.2.1 ∧ cf.2.1 ≤ 32 := hc.2.1
  obtain ⟨h1, -, -, -, -, -, -, -, h9, h10⟩ := id h
  have h10' := h10
  unfold BT at h10'
  unfold wp_Blocks_erase
  refine ⟨hb, hb, fun σ1 e1 => ?_⟩
  have er1 : rI (gA σ 260 o b + 1) := by unfold rI; omega
  rw [w32_id er1] at e1
  have k1 : RK σ1 := by rw [e1]; exact hrk.sA er1
  have f1 : Fr (mSt o) σ σ1 := by rw [e1]; exact (Fr.rf _ σ).sA (Or.inr ⟨Or.inl (by decide), rfl⟩)
  have f1' : Fr (fun f o' => f = 260 ∧ o' = o) σ σ1 := by rw [e1]; exact (Fr.rf _ σ).sA ⟨rfl, rfl⟩
  have ee1 : ∀ x, gA σ1 260 o x = if x = b then gA σ 260 o b + 1 else gA σ 260 o x := by
    intro x; rw [e1, gA_sA]
    by_cases q : x = b
    · rw [if_pos ⟨rfl, rfl, q⟩, if_pos q]
    · rw [if_neg (fun z => q z.2.2), if_neg q]
  clear e1
  have nf : ∀ f o', f ≠ 260 → ¬ (f = 260 ∧ o' = o) := fun f o' a q => a q.1
  have w1 := f1'.a 133 0 (nf _ _ (by decide))
  have b1 := f1'.a 134 0 (nf _ _ (by decide))
  have c1 := f1'.a 259 o (nf _ _ (by decide))
  have s1 := f1'.i 261 o (nf _ _ (by decide))
  have i1 := f1'.i 136 0 (nf _ _ (by decide))
  have F1 : FlI cf σ1 lp := h1.fr f1' (fun f a c => nf f 0 (by omega))
  refine sp_flash_erase hc F1 k1 hb (fun r τ rz hF h0 h11 fr _ kτ => ?_)
  have nfe : ∀ f o', (f < 130 ∨ 136 < f ∨ f = 134) → ¬ mFe f o' := fun f o' a q => by unfold mFe at q; omega
  have f2 : Fr (mSt o) σ τ := f1.tr (fr.mono (fun f o' q => Or.inl ⟨⟨q.1.1, q.1.2.1⟩, q.2⟩))
  have b2 := (fr.a 134 0 (nfe _ _ (by decide))).trans b1
  have c2 := (fr.a 259 o (nfe _ _ (by decide))).trans c1
  have s2 := (fr.i 261 o (nfe _ _ (by decide))).trans s1
  have ee2 : ∀ x, gA τ 260 o x = if x = b then gA σ 260 o b + 1 else gA σ 260 o x := by
    intro x; rw [fr.a 260 o (nfe _ _ (by decide))]; exact ee1 x
  have lose : ∀ (τ' : St) (lp' : Int → Int → Int), Fr (mSt o) σ τ' → FlI cf τ' lp' → (∀ b' p, b' ≠ b → 0 ≤ p → p < cf.2.1 → lp' (b' * cf.2.1 + p) = lp (b' * cf.2.1 + p)) → (∀ b', b' ≠ b → gA τ' 133 0 b' = gA σ 133 0 b') → gA τ' 134 0 = gA σ 134 0 → gA τ' 259 o = gA σ 259 o → (∀ x, gA τ' 260 o x = if x = b then gA σ 260 o b + 1 else gA σ 260 o x) → gI τ' 261 o = gI σ 261 o → 0 ≤ gI σ 136 0 → gI τ' 136 0 < 0 → wp_Blocks_erase_b39 cf tv o b Q τ' := by
    intro τ' lp' g1 g2 g3 g4 g5 g6 g7 g8 g9 g10
    have hbk : brk τ' cf.1.toNat = brk σ cf.1.toNat := by unfold brk; rw [g5]
    have hb4 : brk σ cf.1.toNat + 1 ≤ fl σ := by unfold BF at h9; rw [if_pos g9] at h9; exact h9
    have H : BI tv cf τ' o lp' vw vp Sp (T + 1) E := by
      refine h.step hc hE hnb ht g1 g2 g3 g4 (fun b' _ => by rw [g5]) (fun b' _ => by rw [g6]) (fun b' q => by rw [g7, if_neg q]) ⟨by omega, by omega⟩ ⟨by omega, hT⟩ ?_
      unfold BF; rw [if_neg (by omega), hbk, fl_fr g1 (by unfold mSt; omega)]; omega
    unfold wp_Blocks_erase_b39
    have nm : ∀ f : Nat, ∀ o' : Int, (f = 258 ∨ (265 ≤ f ∧ f ≤ 268)) → ¬ mSt o f o' := by
      intro f o' a q
      unfold mSt at q
      omega
    refine sp_lose hc H hb hE hE' (by rw [g1.a _ _ (nm _ _ (by decide))]; exact hnb) (by rw [g1.i _ _ (nm 265 o (by decide)), g1.i _ _ (nm 266 o (by decide))]; exact ht) g10 (by rw [hbk, fl_fr g1 (by unfold mSt; omega)]; exact hb4) (fun τ'' H2 d1 d2 d4 d3 _ => ?_)
    have nn : ∀ f o', f ≠ 259 → f ≠ 134 → ¬ ((f = 259 ∧ o' = o) ∨ (f = 134 ∧ o' = 0)) := fun f o' x y q => by omega
    refine hQ τ'' lp' H2 (fun b' q => by rw [d1 b' q, g6]) ?_ ?_ ?_ (fun b' q => by rw [d3.a _ _ (nn 133 0 (by decide) (by decide))]; exact g4 b' q) g3 (Or.inr ⟨d2, g9, ?_⟩) (g1.tr (d3.mono ?_))
    · intro b' q
      rw [d4, if_neg q, g5]
    · intro b' q; rw [d3.a _ _ (nn 260 o (by decide) (by decide)), g7, if_neg q]
    · rw [d3.i _ _ (nn 261 o (by decide) (by decide))]; exact g8
    · rw [d3.i _ _ (nn 136 0 (by decide) (by decide))]; exact g10
    · intro f o' q
      unfold mSt
      omega
  refine ⟨fun hr0 => ?_, fun hr1 => ?_⟩
  · obtain ⟨a1, a2, a3⟩ := h0 hr0
    refine lose τ lp f2 hF (fun _ _ _ _ _ => rfl) (fun b' _ => by rw [a1, w1]) b2 c2 ee2 s2 (by omega) a3
  · obtain ⟨a1, a2⟩ := h11 (by unfold rZ at rz; omega)
    have wz : gA τ 133 0 b = 0 := by rw [a1]; unfold upF; rw [if_pos rfl]
    refine sp_writeErased hc hF hb wz (kτ.ai _ _ _ (by decide)) (fun r' υ x rz' hF' hw' q0 q1 q2 fr' _ kυ => ?_)
    have nfp : ∀ f o', ((f < 130 ∨ 136 < f ∨ f = 134 ∨ f = 135) ∧ f ≠ 262) → ¬ mBp o f o' := fun f o' a q => by unfold mBp mFw at q; omega
    have f3 : Fr (mSt o) σ υ := f2.tr (fr'.mono (fun f o' q => by unfold mBp mFw at q; unfold mSt; omega))
    have b3 := (fr'.a 134 0 (nfp _ _ (by decide))).trans b2
    have c3 := (fr'.a 259 o (nfp _ _ (by decide))).trans c2
    have s3 := (fr'.i 261 o (nfp _ _ (by decide))).trans s2
    have ee3 : ∀ x, gA υ 260 o x = if x = b then gA σ 260 o b + 1 else gA σ 260 o x := by
      intro x; rw [fr'.a 260 o (nfp _ _ (by decide))]; exact ee2 x
    have w3 : ∀ b', b' ≠ b → gA υ 133 0 b' = gA σ 133 0 b' := by
      intro b' q; rw [hw']; unfold upF; rw [if_neg q, a1]; unfold upF; rw [if_neg q, w1]
    have l3 := upP_ne hc (lp := lp) (b := b) (x := x) (p0 := 0) ⟨by omega, by omega⟩
    refine ⟨fun hr0 => ?_, fun hr1 => ⟨hb, fun σ' e' => ?_⟩⟩
    · obtain ⟨z1, z2⟩ := q0 hr0
      exact lose υ _ f3 hF' l3 w3 b3 c3 ee3 s3 (by rw [← i1]; exact a2.mp z1) z2
    · have r1 : r' = 1 := by unfold rZ at rz'; omega
      have f4 : Fr (fun f o' => f = 259 ∧ o' = o) υ σ' := by rw [e']; exact (Fr.rf _ υ).sA ⟨rfl, rfl⟩
      have f5 : Fr (mSt o) σ σ' := f3.tr (f4.mono (fun f o' q => by unfold mSt; omega))
      have nc : ∀ f o', f ≠ 259 → ¬ (f = 259 ∧ o' = o) := fun f o' a q => a q.1
      have c4 : ∀ x, gA σ' 259 o x = if x = b then -1 else gA σ 259 o x := by
        intro x; rw [e', gA_sA]
        by_cases q : x = b
        · rw [if_pos ⟨rfl, rfl, q⟩, if_pos q]
        · rw [if_neg (fun z => q z.2.2), if_neg q, c3]
      have b4 := (f4.a 134 0 (nc _ _ (by decide))).trans b3
      have s4 := (f4.i 261 o (nc _ _ (by decide))).trans s3
      have i4 := f4.i 136 0 (nc _ _ (by decide))
      have ww4 := f4.a 133 0 (nc _ _ (by decide))
      have w4 : gA σ' 133 0 b = 1 := by rw [ww4, hw']; unfold upF; rw [if_pos rfl]
      have ee4 : ∀ x, gA σ' 260 o x = if x = b then gA σ 260 o b + 1 else gA σ 260 o x := by
        intro x; rw [f4.a 260 o (nc _ _ (by decide))]; exact ee3 x
      have F4 : FlI cf σ' (upP lp (b * cf.2.1 + 0) x) := hF'.fr f4 (fun f a c => nc f 0 (by omega))
      have hfi : 0 ≤ gI σ' 136 0 ↔ 0 ≤ gI σ 136 0 := by rw [i4, q1 r1, a2, i1]
      have H : BI tv cf σ' o (upP lp (b * cf.2.1 + 0) x) vw vp Sp (T + 1) E := by
        refine h.step hc hE hnb ht f5 F4 l3 (fun b' q => by rw [ww4]; exact w3 b' q) (fun b' _ => by rw [b4]) (fun b' q => by rw [c4, if_neg q]) (fun b' q => by rw [ee4, if_neg q]) ⟨by omega, by omega⟩ ⟨by omega, hT⟩ ?_
        have hbk : brk σ' cf.1.toNat = brk σ cf.1.toNat := by unfold brk; rw [b4]
        unfold BF at h9 ⊢
        rw [hbk, fl_fr f5 (by unfold mSt; omega)]
        by_cases q : 0 ≤ gI σ 136 0
        · rw [if_pos (hfi.mpr q)]; rw [if_pos q] at h9; exact h9
        · rw [if_neg (fun z => q (hfi.mp z))]; rw [if_neg q] at h9; exact h9
      refine hQ σ' (upP lp (b * cf.2.1 + 0) x) ?_ (fun b' q => by rw [c4, if_neg q]) (fun b' _ => by rw [b4]) (fun b' q => by rw [ee4, if_neg q]) s4 (fun b' q => by rw [ww4]; exact w3 b' q) l3 (Or.inl ⟨by rw [c4, if_pos rfl], by rw [b4]; exact hbr, hfi⟩) f5
      refine H.adm (b := b) hE' ?_ ?_ ?_ ?_ ?_
      · intro y y0 y1 yE yb
        have e : y = b := Classical.byContradiction (fun q => yE q)
        rw [e, w4, upP_at, ee4, if_pos rfl]
        have q2' := q2 r1
        rw [ee2, if_pos rfl] at q2'
        exact ⟨⟨by omega, q2', by omega, by omega⟩, fun z => by omega⟩
      · intro y y0 y1 yE
        have e : y = b := Classical.byContradiction (fun q => yE q)
        rw [e, c4, if_pos rfl, w4, b4, hbr]
        exact ⟨by omega, fun _ => ⟨rfl, rfl⟩, fun q => by omega, fun q => absurd rfl q, fun q => by omega⟩
      · intro b' _ _ _ _ _ _ q; rw [w4] at q; omega
      · intro b' _ _ _ _ q; rw [c4, if_pos rfl] at q; omega
      · intro y y0 y1 yE q
        have e : y = b := Classical.byContradiction (fun q => yE q)
        rw [e, c4, if_pos rfl] at q; omega
