/-! a number is dropped; what numbers have -/
theorem BI.drop {tv : Nat → Int} {cf : Cf} {σ : St} {o : Int} {lp : Int → Int → Int} {vw : Int → Int} {vp : Int → Int → Int → Int} {Sp : Int → Int → (Int → Int → Int) → Prop} {T : Int} {τ : St} {n s : Int} (h : BI tv cf σ o lp vw vp Sp T NoE) (hn : 0 ≤ n ∧ n < cf.1 - 6) (hs : gA σ 258 o n = s) (hs1 : s ≠ -1) (hm : gI σ 265 o ≠ n) (hS : ∀ w, 0 ≤ w → w ≤ vw n → Sp n w (vp n))
    (c : ∀ x, gA τ 259 o x = if x = s then -2 else gA σ 259 o x) (bo : ∀ x, gA τ 258 o x = if x = n then -1 else gA σ 258 o x) (fr : Fr (mCb o) σ τ) : BI tv cf τ o lp (upF vw n (-1)) vp Sp T NoE := by
  obtain ⟨h1, h2, h3, h4, h5, h6, h7, h8, h9, h10⟩ := h
  have nm : ∀ f : Nat, ∀ o' : Int, f ≠ 259 → f ≠ 258 → ¬ mCb o f o' := fun f o' x y q => by unfold mCb at q; omega
  have ew := fr.a 133 0 (nm _ _ (by decide) (by decide))
  have eb := fr.a 134 0 (nm _ _ (by decide) (by decide))
  have ee := fr.a 260 o (nm _ _ (by decide) (by decide))
  have es := fr.i 261 o (nm _ _ (by decide) (by decide))
  have em := fr.i 265 o (nm _ _ (by decide) (by decide))
  have et := fr.i 266 o (nm _ _ (by decide) (by decide))
  have ed := fr.i 267 o (nm _ _ (by decide) (by decide))
  have eo := fr.i 268 o (nm _ _ (by decide) (by decide))
  have ef := fr.i 136 0 (nm _ _ (by decide) (by decide))
  have el := fl_fr fr (nm _ _ (by decide) (by decide))
  have wh : ∀ b, whB tv cf τ lp b ↔ whB tv cf σ lp b := fun b => by unfold whB; rw [ew]
  have hs2 : (0 ≤ s ∧ s < cf.1) ∧ gA σ 259 o s = n := by
    rcases h4 n hn.1 hn.2 with q | q
    · omega
    · rw [hs] at q; exact q
  have v8 := (h8 n hn.1 hn.2).2 (by omega)
  rw [hs] at v8
  have cb : ∀ b, b ≠ s → gA τ 259 o b = gA σ 259 o b := fun b q => by rw [c, if_neg q]
  have cs : gA τ 259 o s = -2 := by rw [c, if_pos rfl]
  have old : ∀ b, 0 ≤ b → b < cf.1 → b ≠ s → gA σ 259 o b ≠ n := by
    intro b b0 b1 bs q
    have y := ((h3 b b0 b1 (fun z => z)).2.2.2.2 (by omega)).2.1
    rw [q, hs] at y
    exact bs y.symm
  have sbr : gA σ 134 0 s = 0 := by
    apply Classical.byContradiction
    intro z
    have := (h3 s hs2.1.1 hs2.1.2 (fun z => z)).2.2.2.1 z
    omega
  refine ⟨h1.fr fr (fun f a q => nm f 0 (by omega) (by omega)), ?_, ?_, ?_, ?_, ?_, ?_, ?_, ?_, ?_⟩
  · intro b b0 b1 bE
    rw [eb, ew, ee, es]
    exact h2 b b0 b1 bE
  · intro b b0 b1 bE
    rw [eb, ew, em, et, wh]
    by_cases q : b = s
    · rw [q, cs, sbr]
      exact ⟨by omega, fun q => by omega, fun q => by omega, fun q => absurd rfl q, fun q => by omega⟩
    · rw [cb b q, bo, if_neg (old b b0 b1 q)]
      exact h3 b b0 b1 bE
  · intro n' n0 n1
    rw [bo]
    by_cases q : n' = n
    · rw [if_pos q]; exact Or.inl rfl
    · rw [if_neg q]
      rcases h4 n' n0 n1 with z | ⟨z1, z2⟩
      · exact Or.inl z
      · refine Or.inr ⟨z1, ?_⟩
        rw [cb _ (fun e => ?_)]
        · exact z2
        · rw [e] at z2; exact q (z2.symm.trans hs2.2)
  · rcases h5 with q | ⟨m, u, s', a1, a2, a3, a4, a5, a6, a7, a8⟩
    · exact Or.inl (by rw [em]; exact q)
    · have mn : m ≠ n := fun e => hm (a1.trans e)
      refine Or.inr ⟨m, u, s', by rw [em]; exact a1, by rw [et]; exact a2, by rw [bo, if_neg mn]; exact a3, a4, a5, a6, ?_, ?_⟩
      · rw [cb u (fun e => ?_)]
        · exact a7
        · rw [e] at a7; omega
      · rw [eb, ew, eo, ed]; exact a8
  · intro b b' b0 b1 b0' b1' bb bE bE'
    rw [eb, ew, em, et, wh]
    by_cases q : b = s
    · rw [q, cs]; intro z; omega
    · rw [cb b q]
      exact h6 b b' b0 b1 b0' b1' bb bE bE'
  · intro b b0 b1 bE
    rw [ew, wh]
    by_cases q : b = s
    · subst q
      intro _ x2 x3
      have hN := ((h3 b b0 b1 bE).2.2.2.2 (by omega)).2.2.2.1
      rw [hN, hs2.2]
      exact Or.inl ⟨vp n, fun w w0 w1 => hS w w0 (by omega), fun k k0 k1 i i0 i1 => (v8.2 k k0 (by omega) i i0 i1).symm⟩
    · rw [cb b q]
      intro x1 x2 x3
      rcases h7 b b0 b1 bE x1 x2 x3 with y | ⟨s', y1, y2, y3, y4⟩
      · exact Or.inl y
      · by_cases e : hNum (lp (b * cf.2.1 + 1)) = n
        · rw [e, hs] at y1
          subst y1
          rw [e]
          refine Or.inl ⟨vp n, fun w w0 w1 => hS w w0 (by omega), fun k k0 k1 i i0 i1 => ?_⟩
          rw [y4 k k0 k1 i i0 i1]
          exact (v8.2 k k0 (by omega) i i0 i1).symm
        · exact Or.inr ⟨s', by rw [bo, if_neg e]; exact y1, y2, y3, y4⟩
  · intro n' n0 n1
    rw [bo, ew]
    unfold upF
    by_cases q : n' = n
    · rw [if_pos q, if_pos q]
      exact ⟨fun _ => rfl, fun z => absurd rfl z⟩
    · rw [if_neg q, if_neg q]
      exact h8 n' n0 n1
  · unfold BF brk at h9 ⊢; rw [eb, ef, el]; exact h9
  · unfold BT at h10 ⊢; rw [es]; exact h10
theorem sp_drop {tv : Nat → Int} {cf : Cf} {σ : St} {o : Int} {lp : Int → Int → Int} {vw : Int → Int} {vp : Int → Int → Int → Int} {Sp : Int → Int → (Int → Int → Int) → Prop} {T : Int} (hc : CfOK cf) (hrk : RK σ) {n : Int} {Q : St → Prop} (h : BI tv cf σ o lp vw vp Sp T NoE) (hn : 0 ≤ n ∧ n < cf.1 - 6) (hS : ∀ w, 0 ≤ w → w ≤ vw n → Sp n w (vp n))
    (hQ : ∀ τ, BI tv cf τ o lp (upF vw n (-1)) vp Sp T NoE → Fr (mMv o) σ τ → RK τ → Q τ) : wp_Blocks_drop cf tv o n Q σ := by
  unfold wp_Blocks_drop
  refine sp_stopMove hc hrk h hn.1 (fun σ1 H m f k _ => ⟨hn, fun q => ?_, fun q => ?_⟩)
  · have hb : 0 ≤ gA σ1 258 o n ∧ gA σ1 258 o n < cf.1 := by
      rcases H.2.2.2.1 n hn.1 hn.2 with z | z
      · exact absurd z q
      · exact z.1
    refine ⟨hn, hb, fun σ7 e7 => ⟨hn, fun σ8 e8 => ?_⟩⟩
    have fr0 : Fr (mCb o) σ1 σ8 := by
      rw [e8, e7]
      exact ((Fr.rf _ _).sA ⟨Or.inl rfl, rfl⟩).sA ⟨Or.inr rfl, rfl⟩
    have k8 : RK σ8 := by rw [e8, e7]; exact (k.sA (by show rI (-2); unfold rI; omega)).sA (by show rI (-1); unfold rI; omega)
    refine hQ σ8 (H.drop hn rfl q m hS (fun x => ?_) (fun x => ?_) fr0) (f.tr (fr0.mono (fun f o' q => by unfold mCb at q; unfold mMv; omega))) k8
    · rw [e8, e7, sA_of (by decide), sA_if]
    · rw [e8, sA_if, e7, sA_of (by decide)]
  · have v := (H.2.2.2.2.2.2.2.1 n hn.1 hn.2).1 q
    have e : upF vw n (-1) = vw := by
      funext x; unfold upF
      by_cases z : x = n
      · rw [if_pos z, z, v]
      · rw [if_neg z]
    rw [← e] at H
    exact hQ σ1 H f k
theorem sp_written {tv : Nat → Int} {cf : Cf} {σ : St} {o : Int} {lp : Int → Int → Int} {vw : Int → Int} {vp : Int → Int → Int → Int} {Sp : Int → Int → (Int → Int → Int) → Prop} {T : Int} {n : Int} {Q : Int → St → Prop} {E : Int → Prop} (h : BI tv cf σ o lp vw vp Sp T E) (hc : CfOK cf) (hn : 0 ≤ n ∧ n < cf.1 - 6)
    (hQ : Q (max 0 (vw n)) σ) : wp_Blocks_written cf tv o n Q σ := by
  have hP : 8 ≤ cf.2.1 ∧ cf.2.1 ≤ 32 := hc.2.1
  have v := h.2.2.2.2.2.2.2.1 n hn.1 hn.2
  unfold wp_Blocks_written wp_Flash_written
  refine ⟨hn, fun q => ⟨hn, ?_⟩, fun q => ?_⟩
  · have hb : 0 ≤ gA σ 258 o n ∧ gA σ 258 o n < cf.1 := by
      rcases h.2.2.2.1 n hn.1 hn.2 with z | z
      · exact absurd z q
      · exact z.1
    refine ⟨hb, fun _ _ => ?_⟩
    have w := (h.1 _ hb.1 hb.2).1
    rw [w32_id (by unfold rI; omega)]
    rw [(v.2 q).1] at hQ
    exact hQ
  · rw [v.1 q] at hQ
    exact hQ
theorem sp_bread {tv : Nat → Int} {cf : Cf} {σ : St} {o : Int} {lp : Int → Int → Int} {vw : Int → Int} {vp : Int → Int → Int → Int} {Sp : Int → Int → (Int → Int → Int) → Prop} {T : Int} {n k a q : Int} {f : Nat} {Q : St → Prop} {E : Int → Prop} (hc : CfOK cf) (h : BI tv cf σ o lp vw vp Sp T E) (hn : 0 ≤ n ∧ n < cf.1 - 6) (hk : 0 ≤ k) (hf : f < 130 ∨ 136 < f) (ha : 0 ≤ a) (hl : a + 128 ≤ aln cf f q) (hla : a + 128 < 2147483647)
    (hQ : ∀ τ, gA τ f q = (fun i => if a ≤ i ∧ i < a + 128 then (if k < vw n then vp n k (i - a) else -1) else gA σ f q i) → Fr (fun f' o' => (f' = 135 ∧ o' = 0) ∨ (f' = f ∧ o' = q)) σ τ → RK τ → Q τ) : wp_Blocks_read cf tv o n k f q a Q σ := by
  have hP : 8 ≤ cf.2.1 ∧ cf.2.1 ≤ 32 := hc.2.1
  have v := h.2.2.2.2.2.2.2.1 n hn.1 hn.2
  unfold wp_Blocks_read
  refine sp_written h hc hn (fun _ hrk => ⟨fun z => ?_, fun z => ⟨hn, ?_⟩⟩)
  · rw [w32_id (by unfold rI; omega)]
    refine sp_fill3 ha (by omega) hl (by omega) hrk (fun k1 => hQ _ ?_ ((Fr.rf _ _).sAr (Or.inr ⟨rfl, rfl⟩)) k1)
    rw [gA_sAr1]
    funext i
    rw [if_neg (show ¬ k < vw n by omega)]
  · have q1 : gA σ 258 o n ≠ -1 := fun e => by have := v.1 e; omega
    have hb : 0 ≤ gA σ 258 o n ∧ gA σ 258 o n < cf.1 := by
      rcases h.2.2.2.1 n hn.1 hn.2 with z | z
      · exact absurd z q1
      · exact z.1
    have w := (h.1 _ hb.1 hb.2).1
    obtain ⟨v1, v2⟩ := v.2 q1
    rw [w32_id (by unfold rI; omega)]
    refine sp_flash_read hc h.1 hb ⟨by omega, by omega⟩ hf ha hl hla (fun τ e fr k1 => hQ τ ?_ fr k1)
    rw [e]
    funext i
    by_cases c : a ≤ i ∧ i < a + 128
    · rw [if_pos c, if_pos c, if_pos (by omega), v2 k hk (by omega) (i - a) (by omega) (by omega)]
    · rw [if_neg c, if_neg c]
