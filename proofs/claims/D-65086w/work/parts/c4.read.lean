/-! the three heads that write; reading what they have, or the flash has -/
def WW (cf : Cf) (σ : St) (o : Int) (dk : Int → Int) (db : Int → Int → Int) : Prop := WrI cf σ dk db o ∧ WrI cf σ dk db (o + 2) ∧ WrI cf σ dk db (o + 4) ∧ (gI σ 451 o = -1 ∨ (gI σ 451 o ≠ gI σ 451 (o + 2) ∧ gI σ 451 o ≠ gI σ 451 (o + 4))) ∧ (gI σ 451 (o + 2) = -1 ∨ gI σ 451 (o + 2) ≠ gI σ 451 (o + 4))
/-- how many bytes a number has -/
def eE (σ : St) (o : Int) (dk : Int → Int) (n : Int) : Int := if n = gI σ 451 o then gI σ 452 o else if n = gI σ 451 (o + 2) then gI σ 452 (o + 2) else if n = gI σ 451 (o + 4) then gI σ 452 (o + 4) else 128 * max 0 (dk n)
theorem WW.fr {cf : Cf} {σ τ : St} {o : Int} {dk : Int → Int} {db : Int → Int → Int} {M : Nat → Int → Prop} (h : WW cf σ o dk db) (f : Fr M σ τ) (n : ∀ f w, (w = o ∨ w = o + 2 ∨ w = o + 4) → 450 ≤ f → f ≤ 452 → ¬ M f w) : WW cf τ o dk db := by
  obtain ⟨h1, h2, h3, h4, h5⟩ := h
  refine ⟨h1.fr f (fun g a b => n g _ (Or.inl rfl) a b), h2.fr f (fun g a b => n g _ (Or.inr (Or.inl rfl)) a b), h3.fr f (fun g a b => n g _ (Or.inr (Or.inr rfl)) a b), ?_, ?_⟩
  · rw [f.i 451 o (n _ _ (Or.inl rfl) (by decide) (by decide)), f.i 451 (o + 2) (n _ _ (Or.inr (Or.inl rfl)) (by decide) (by decide)), f.i 451 (o + 4) (n _ _ (Or.inr (Or.inr rfl)) (by decide) (by decide))]
    exact h4
  · rw [f.i 451 (o + 2) (n _ _ (Or.inr (Or.inl rfl)) (by decide) (by decide)), f.i 451 (o + 4) (n _ _ (Or.inr (Or.inr rfl)) (by decide) (by decide))]
    exact h5
theorem eE_fr {σ τ : St} {o : Int} {dk : Int → Int} {n : Int} {M : Nat → Int → Prop} (f : Fr M σ τ) (nn : ∀ f w, (w = o ∨ w = o + 2 ∨ w = o + 4) → 450 ≤ f → f ≤ 452 → ¬ M f w) : eE τ o dk n = eE σ o dk n := by
  unfold eE
  rw [f.i 451 o (nn _ _ (Or.inl rfl) (by decide) (by decide)), f.i 451 (o + 2) (nn _ _ (Or.inr (Or.inl rfl)) (by decide) (by decide)), f.i 451 (o + 4) (nn _ _ (Or.inr (Or.inr rfl)) (by decide) (by decide)), f.i 452 o (nn _ _ (Or.inl rfl) (by decide) (by decide)), f.i 452 (o + 2) (nn _ _ (Or.inr (Or.inl rfl)) (by decide) (by decide)), f.i 452 (o + 4) (nn _ _ (Or.inr (Or.inr rfl)) (by decide) (by decide))]
/-- a writer has all pages of its number but the last -/
theorem WrI.le {cf : Cf} {σ : St} {dk : Int → Int} {db : Int → Int → Int} {w n : Int} (h : WrI cf σ dk db w) (hn : gI σ 451 w = n) (n0 : 0 ≤ n) : (4 + cf.2.2 ≤ n ∧ n < cf.1 - 6) ∧ (0 ≤ gI σ 452 w ∧ gI σ 452 w ≤ (cf.2.1 - 2) * 128) ∧ max 0 (dk n) = gI σ 452 w / 128 ∧ ∀ p, gI σ 452 w / 128 * 128 ≤ p → p < gI σ 452 w → gA σ 450 w (p % 128) = db n p := by
  rcases h with q | ⟨w1, w2, w3, w4⟩
  · omega
  · rw [hn] at w1 w3 w4
    exact ⟨w1, w2, w3, w4⟩
theorem WW.lim {cf : Cf} {σ : St} {o : Int} {dk : Int → Int} {db : Int → Int → Int} (h : WW cf σ o dk db) (hP : 2 ≤ cf.2.1) (hd : ∀ n, 0 ≤ n → n < cf.1 - 6 → -1 ≤ dk n ∧ dk n ≤ cf.2.1 - 2) {n : Int} (n0 : 0 ≤ n) (n1 : n < cf.1 - 6) : 128 * max 0 (dk n) ≤ eE σ o dk n ∧ eE σ o dk n ≤ (cf.2.1 - 2) * 128 ∧ 0 ≤ eE σ o dk n := by
  obtain ⟨h1, h2, h3, h4, h5⟩ := h
  unfold eE
  split
  · rename_i e
    have := h1.le e.symm n0
    omega
  · split
    · rename_i e
      have := h2.le e.symm n0
      omega
    · split
      · rename_i e
        have := h3.le e.symm n0
        omega
      · have := hd n n0 n1
        omega
theorem sp_wreads {tv : Nat → Int} {cf : Cf} {σ : St} {w n k q : Int} {f : Nat} {Q : Int → St → Prop} (hl : 128 ≤ aln cf f q) (hp : n = gI σ 451 w → 0 ≤ gI σ 452 w ∧ gI σ 452 w < 2147483648)
    (h0 : ¬ (n = gI σ 451 w ∧ k = gI σ 452 w / 128 ∧ gI σ 452 w % 128 ≠ 0) → Q 0 σ)
    (h1 : n = gI σ 451 w → k = gI σ 452 w / 128 → gI σ 452 w % 128 ≠ 0 → ∀ τ, (∀ i, 0 ≤ i → i < 128 → gA τ f q i = gA σ 450 w i) → Fr (fun f' o' => f' = f ∧ o' = q) σ τ → Q 1 τ) : wp_Writer_reads cf tv w n k f q 0 Q σ := by
  unfold wp_Writer_reads
  refine ⟨fun e => h0 (fun z => e z.1), fun e => ?_⟩
  have p := hp e
  rw [jdv_nn p.1 (by omega) p.2, jrm_nn p.1 (by omega) (by omega)]
  refine ⟨fun e2 => h0 (fun z => e2 z.2.1), fun e2 => ⟨fun e3 => ⟨⟨⟨by omega, by omega, by omega⟩, by omega, by omega⟩, fun σ2 z2 => ?_⟩, fun e3 => h0 (fun z => z.2.2 e3)⟩⟩
  refine h1 e e2 e3 σ2 (fun i i0 i1 => ?_) (by rw [z2]; exact (Fr.rf _ _).sAr ⟨rfl, rfl⟩)
  rw [z2, gA_sAr1]
  unfold cpy
  rw [if_pos (by omega)]
  congr 1
  omega
def mPg (o : Int) (f : Nat) (o' : Int) : Prop := (f = 135 ∧ o' = 0) ∨ (f = 201 ∧ o' = o)
theorem sp_readPage {tv : Nat → Int} {cf : Cf} {σ : St} {o : Int} {dk : Int → Int} {db : Int → Int → Int} {Sp : Int → Int → (Int → Int → Int) → Prop} {B : Int} (hc : CfOK cf) {n k : Int} {Q : St → Prop} (h : DJ tv cf σ o dk db Sp B) (hw : WW cf σ o dk db) (hn : 0 ≤ n ∧ n < cf.1 - 6) (hk : 0 ≤ k)
    (hQ : ∀ τ, (∀ i, 0 ≤ i → i < 128 → 128 * k + i < eE σ o dk n → gA τ 201 o i = db n (128 * k + i)) → Fr (mPg o) σ τ → Q τ) : wp_Store_readPage cf tv o n k Q σ := by
  have hP : 8 ≤ cf.2.1 ∧ cf.2.1 ≤ 32 := hc.2.1
  obtain ⟨w1, w2, w3, w4, w5⟩ := hw
  have al : aln cf 201 o = 128 := rfl
  have fp : ∀ {τ : St}, Fr (fun f' o' => f' = 201 ∧ o' = o) σ τ → Fr (mPg o) σ τ := fun f => f.mono (fun f o' q => Or.inr q)
  unfold wp_Store_readPage
  refine sp_wreads (by rw [al]; omega) (fun e => by have := w1.le e.symm hn.1; omega) (fun j0 _ _ => ⟨fun z => absurd rfl z, fun _ => ?_⟩) (fun e e2 e3 τ ht fr _ _ => ⟨fun _ => hQ τ (fun i i0 i1 i2 => ?_) (fp fr), fun z => absurd z (by omega)⟩)
  · refine sp_wreads (by rw [al]; omega) (fun e => by have := w2.le e.symm hn.1; omega) (fun m0 _ _ => ⟨fun z => absurd rfl z, fun _ => ?_⟩) (fun e e2 e3 τ ht fr _ _ => ⟨fun _ => hQ τ (fun i i0 i1 i2 => ?_) (fp fr), fun z => absurd z (by omega)⟩)
    · refine sp_wreads (by rw [al]; omega) (fun e => by have := w3.le e.symm hn.1; omega) (fun k0 _ _ => ⟨fun z => absurd rfl z, fun _ => ?_⟩) (fun e e2 e3 τ ht fr _ _ => ⟨fun _ => hQ τ (fun i i0 i1 i2 => ?_) (fp fr), fun z => absurd z (by omega)⟩)
      · refine sp_jread hc h hn hk (Or.inr (by decide)) (by omega) (by rw [al]; omega) (by omega) (fun τ ht fr _ _ => hQ τ (fun i i0 i1 i2 => ?_) fr)
        rw [ht]
        dsimp only
        rw [if_pos (by omega)]
        have lt : k < dk n := by
          unfold eE at i2
          split at i2
          · rename_i e
            have := w1.le e.symm hn.1
            have j1 : ¬ (k = gI σ 452 o / 128 ∧ gI σ 452 o % 128 ≠ 0) := fun z => j0 ⟨e, z⟩
            omega
          · split at i2
            · rename_i e
              have := w2.le e.symm hn.1
              have j1 : ¬ (k = gI σ 452 (o + 2) / 128 ∧ gI σ 452 (o + 2) % 128 ≠ 0) := fun z => m0 ⟨e, z⟩
              omega
            · split at i2
              · rename_i e
                have := w3.le e.symm hn.1
                have j1 : ¬ (k = gI σ 452 (o + 4) / 128 ∧ gI σ 452 (o + 4) % 128 ≠ 0) := fun z => k0 ⟨e, z⟩
                omega
              · omega
        rw [if_pos lt]
        congr 1
        omega
      · have := (w3.le e.symm hn.1).2.2.2 (128 * k + i)
        rw [ht i i0 i1]
        have e4 : eE σ o dk n = gI σ 452 (o + 4) := by
          unfold eE
          rw [if_neg (by omega), if_neg (by omega), if_pos e]
        rw [e4] at i2
        rw [← this (by omega) i2]
        congr 1
        omega
    · have := (w2.le e.symm hn.1).2.2.2 (128 * k + i)
      rw [ht i i0 i1]
      have e4 : eE σ o dk n = gI σ 452 (o + 2) := by
        unfold eE
        rw [if_neg (by omega), if_pos e]
      rw [e4] at i2
      rw [← this (by omega) i2]
      congr 1
      omega
  · have := (w1.le e.symm hn.1).2.2.2 (128 * k + i)
    rw [ht i i0 i1]
    have e4 : eE σ o dk n = gI σ 452 o := by
      unfold eE
      rw [if_pos e]
    rw [e4] at i2
    rw [← this (by omega) i2]
    congr 1
    omega
def mRd2 (o r : Int) (f : Nat) (o' : Int) : Prop := mPg o f o' ∨ mRow r f o'
theorem sp_sread {tv : Nat → Int} {cf : Cf} {σ : St} {o : Int} {dk : Int → Int} {db : Int → Int → Int} {Sp : Int → Int → (Int → Int → Int) → Prop} {B : Int} (hc : CfOK cf) {n a m r : Int} {Q : St → Prop} (h : DJ tv cf σ o dk db Sp B) (hw : WW cf σ o dk db) (hn : 0 ≤ n ∧ n < cf.1 - 6) (ha : 0 ≤ a) (hm : 0 ≤ m) (hr : m ≤ rowL r) (he : a + m ≤ eE σ o dk n)
    (hQ : ∀ τ, (∀ i, 0 ≤ i → i < m → gA τ 512 r i = db n (a + i)) → (∀ i, m ≤ i → gA τ 512 r i = gA σ 512 r i) → gI τ 513 r = 0 → gI τ 514 r = m → Fr (mRd2 o r) σ τ → Q τ) : wp_Store_read cf tv o n a m r Q σ := by
  have hP : 8 ≤ cf.2.1 ∧ cf.2.1 ≤ 32 := hc.2.1
  have hl := hw.lim (by omega) (fun n a b => h.k hc ⟨a, b⟩) hn.1 hn.2
  have hr2 := rowL_r r
  unfold wp_Store_read
  refine sp_rclear (fun τ0 q1 q2 q3 f0 _ => ?_)
  refine lQ1_rule (fun y τ => (0 ≤ y ∧ y ≤ m) ∧ (∀ i, 0 ≤ i → i < y → gA τ 512 r i = db n (a + i)) ∧ (∀ i, y ≤ i → gA τ 512 r i = gA σ 512 r i) ∧ gI τ 513 r = 0 ∧ Fr (mRd2 o r) σ τ) (fun y _ => (m - y).toNat) ?_ 0 τ0 ⟨by omega, fun i i0 i1 => by omega, fun i _ => by rw [q3], q1, f0.mono (fun f o' q => Or.inr ⟨by omega, q.2⟩)⟩
  intro K y τ hI hK
  obtain ⟨h1, h2, h3, h4, h5⟩ := hI
  have nm : ∀ f o', rBI o f o' → ¬ mRd2 o r f o' := fun f o' a q => by unfold rBI at a; unfold mRd2 mPg mRow at q; omega
  have nw : ∀ f w, (w = o ∨ w = o + 2 ∨ w = o + 4) → 450 ≤ f → f ≤ 452 → ¬ mRd2 o r f w := fun f w _ a b q => by unfold mRd2 mPg mRow at q; omega
  unfold wp_Store_read_L8
  refine ⟨fun z σ19 e19 => ?_, fun z y6 e6 y7 e7 => ?_⟩
  · have ey : y = m := by omega
    rw [ey] at h2 h3
    refine hQ σ19 (fun i i0 i1 => by rw [e19]; exact h2 i i0 i1) (fun i i0 => by rw [e19]; exact h3 i i0) (by rw [e19, gI_sI, if_neg (fun q => absurd q.1 (by decide))]; exact h4) (by rw [e19, gI_sI1]) (by rw [e19]; exact h5.sI (Or.inr ⟨by omega, rfl⟩))
  · rw [w32_id (x := a + y) (by unfold rI; omega), jrm_nn (by omega) (by omega) (by omega)] at e6
    rw [w32_id (x := m - y) (by unfold rI; omega), w32_id (x := 128 - y6) (by unfold rI; omega)] at e7
    rw [w32_id (x := a + y) (by unfold rI; omega), jdv_nn (by omega) (by omega) (by omega)]
    refine sp_readPage hc (h.fr h5 nm) (hw.fr h5 nw) hn (by omega) (fun σ23 p1 f1 _ => ⟨by omega, fun σ24 e24 y5 e5 => ?_⟩)
    rw [w32_id (by unfold rI; omega)] at e5
    have np : ∀ f, (f = 512 ∨ f = 513) → ¬ mPg o f r := fun f a q => by unfold mPg at q; omega
    have b23 : gA σ23 512 r = gA τ 512 r := f1.a _ _ (np _ (Or.inl rfl))
    have b24 : ∀ i, gA σ24 512 r i = if y ≤ i ∧ i < y + y7 then gA σ23 201 o (y6 + (i - y)) else gA τ 512 r i := by
      intro i; rw [e24, gA_sAr1, b23]; rfl
    rw [e5]
    refine hK _ _ ⟨by omega, fun i i0 i1 => ?_, fun i i0 => ?_, ?_, ?_⟩ (by omega)
    · rw [b24]
      by_cases q : y ≤ i
      · rw [if_pos (by omega), p1 _ (by omega) (by omega) (by rw [eE_fr h5 nw]; omega)]
        congr 1
        omega
      · rw [if_neg (by omega)]; exact h2 i i0 (by omega)
    · rw [b24, if_neg (by omega)]; exact h3 i (by omega)
    · rw [e24]
      show gI σ23 513 r = 0
      rw [f1.i _ _ (np _ (Or.inr rfl))]; exact h4
    · refine (h5.tr (f1.mono (fun f o' q => Or.inl q))).tr ?_
      rw [e24]; exact (Fr.rf _ _).sAr (Or.inr ⟨by omega, rfl⟩)
/-- what is said of a node that is looked for in vain -/
def noN (tv : Nat → Int) (g : Int → Int) (a lim : Int) : Prop := lim < a + 8 ∨ (rI4 g (a + 4) ≠ 0 ∧ (rI4 g (a + 4) < 24 ∨ 320 < rI4 g (a + 4) ∨ lim < a + rI4 g (a + 4) ∨ ¬ whN tv g a (rI4 g (a + 4))))
theorem rI4_sh {g h : Int → Int} {a b : Int} (e : ∀ i, 0 ≤ i → i < 4 → g (a + i) = h (b + i)) : rI4 g a = rI4 h b := by
  unfold rI4
  have e0 := e 0 (by omega) (by omega)
  rw [Int.add_zero, Int.add_zero] at e0
  rw [e0, e 1 (by omega) (by omega), e 2 (by omega) (by omega), e 3 (by omega) (by omega)]
theorem rL8_sh {g h : Int → Int} {a b : Int} (e : ∀ i, 0 ≤ i → i < 8 → g (a + i) = h (b + i)) : rL8 g a = rL8 h b := by
  unfold rL8
  rw [rI4_sh (a := a) (b := b) (fun i i0 i1 => e i i0 (by omega)), rI4_sh (a := a + 4) (b := b + 4) (fun i i0 i1 => by rw [show a + 4 + i = a + (4 + i) by omega, show b + 4 + i = b + (4 + i) by omega]; exact e _ (by omega) (by omega))]
theorem sp_look {tv : Nat → Int} {cf : Cf} {σ : St} {o : Int} {dk : Int → Int} {db : Int → Int → Int} {Sp : Int → Int → (Int → Int → Int) → Prop} {B : Int} (hc : CfOK cf) {n a r lim : Int} {Q : Int → St → Prop} (h : DJ tv cf σ o dk db Sp B) (hw : WW cf σ o dk db) (hn : 0 ≤ n ∧ n < cf.1 - 6) (ha : 0 ≤ a) (ha2 : a < 1000000) (hr : 320 ≤ rowL r) (hlim : lim = 128 * max 0 (dk n))
    (hN : ∀ τ, noN tv (db n) a lim → Fr (mRd2 o r) σ τ → Q (-1) τ) (h0 : ∀ τ, a + 8 ≤ lim → rI4 (db n) (a + 4) = 0 → Fr (mRd2 o r) σ τ → Q 0 τ)
    (h1 : ∀ τ m, rI4 (db n) (a + 4) = m → (24 ≤ m ∧ m ≤ 320) → a + m ≤ lim → whN tv (db n) a m → (∀ i, 0 ≤ i → i < m → gA τ 512 r i = db n (a + i)) → gI τ 513 r = 0 → gI τ 514 r = m → Fr (mRd2 o r) σ τ → Q m τ) : wp_Store_look cf tv o n a r Q σ := by
  have hP : 8 ≤ cf.2.1 ∧ cf.2.1 ≤ 32 := hc.2.1
  have hd := h.k hc hn
  have hl := hw.lim (by omega) (fun n a b => h.k hc ⟨a, b⟩) hn.1 hn.2
  have nm : ∀ f o', rBI o f o' → ¬ mRd2 o r f o' := fun f o' a q => by unfold rBI at a; unfold mRd2 mPg mRow at q; omega
  have nw : ∀ f w, (w = o ∨ w = o + 2 ∨ w = o + 4) → 450 ≤ f → f ≤ 452 → ¬ mRd2 o r f w := fun f w _ a b q => by unfold mRd2 mPg mRow at q; omega
  unfold wp_Store_look
  refine sp_jwritten hc h hn (fun _ _ y4 e4 => ?_)
  rw [w32_id (by unfold rI; omega)] at e4
  have e4' : y4 = lim := by omega
  rw [e4', w32_id (x := a + 8) (by unfold rI; omega)]
  refine ⟨fun q => ?_, fun q => hN σ (Or.inl (by omega)) (Fr.rf _ _)⟩
  refine sp_sread hc h hw hn ha (by omega) (by omega) (by omega) (fun σ16 b1 b2 b3 b4 f1 _ => ?_)
  refine sp_rlen b3 (by omega) (by omega) (fun _ _ _ => ?_)
  have len : rI4 (gA σ16 512 r) (0 + 4) = rI4 (db n) (a + 4) := rI4_sh (fun i i0 i1 => by rw [b1 _ (by omega) (by omega)]; congr 1; omega)
  rw [len]
  generalize hm : rI4 (db n) (a + 4) = m at h0 h1 ⊢
  have rm : rI m := by rw [← hm]; exact rI4_r _ _
  unfold rI at rm
  refine ⟨fun q2 => ⟨fun q3 => hN σ16 (Or.inr ?_) f1, fun q3 => ⟨fun q4 => hN σ16 (Or.inr ?_) f1, fun q4 => ?_⟩⟩, fun q2 => h0 σ16 q q2 f1⟩
  · rw [hm]; exact ⟨q2, Or.inl q3⟩
  · rw [hm]; exact ⟨q2, Or.inr (Or.inl q4)⟩
  · rw [w32_id (x := a + m) (by unfold rI; omega)]
    refine ⟨fun q5 => ?_, fun q5 => hN σ16 (Or.inr ?_) f1⟩
    · refine sp_sread hc (h.fr f1 nm) (hw.fr f1 nw) hn ha (by omega) (by omega) (by rw [eE_fr f1 nw]; omega) (fun σ20 c1 c2 c3 c4 f2 _ => ?_)
      have len2 : rI4 (gA σ20 512 r) (0 + 4) = m := by
        rw [← hm]
        exact rI4_sh (fun i i0 i1 => by rw [c1 _ (by omega) (by omega)]; congr 1; omega)
      have wc : whN tv (gA σ20 512 r) 0 m ↔ whN tv (db n) a m := by
        constructor
        · exact fun w => w.ext (fun i i0 i1 => by rw [Int.zero_add]; exact c1 i i0 i1)
        · exact fun w => w.ext (fun i i0 i1 => by rw [Int.zero_add]; exact (c1 i i0 i1).symm)
      refine sp_rwhole c3 (by omega) (by omega) (by omega) (by omega) (fun _ w _ _ => ⟨fun _ => hN σ20 (Or.inr ?_) (f1.tr f2), fun z => absurd rfl z⟩) (fun _ w w2 _ _ => ⟨fun z => absurd z (by omega), fun _ => ?_⟩)
      · rw [len2] at w
        rw [hm]
        exact ⟨q2, Or.inr (Or.inr (Or.inr (fun y => w ⟨wc.mpr y, by omega⟩)))⟩
      · rw [len2] at w
        exact h1 σ20 m rfl (by omega) q5 (wc.mp w) c1 c3 c4 (f1.tr f2)
    · rw [hm]; exact ⟨q2, Or.inr (Or.inr (Or.inl (by omega)))⟩
