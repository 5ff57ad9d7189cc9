/-! heads that write, beside one another -/
/-- w is one of the three of o -/
def isW (o w : Int) : Prop := w = o ∨ w = o + 2 ∨ w = o + 4
theorem isW.m {o w : Int} (ho : o = 0 ∨ o = 1) (h : isW o w) : w % 2 = o := by unfold isW at h; omega
/-- each of them, and no number twice -/
theorem WW.all {cf : Cf} {σ : St} {o : Int} {dk : Int → Int} {db : Int → Int → Int} (h : WW cf σ o dk db) : (∀ w, isW o w → WrI cf σ dk db w) ∧ ∀ w v, isW o w → isW o v → w ≠ v → gI σ 451 w ≠ -1 → gI σ 451 w ≠ gI σ 451 v := by
  obtain ⟨h1, h2, h3, h4, h5⟩ := h
  refine ⟨fun w hw => ?_, fun w v hw hv ne nn => ?_⟩
  · rcases hw with e | e | e <;> rw [e] <;> assumption
  · rcases hw with e | e | e <;> rcases hv with e' | e' | e' <;> rw [e] at nn ⊢ <;> rw [e'] <;> omega
theorem WW.of {cf : Cf} {σ : St} {o : Int} {dk : Int → Int} {db : Int → Int → Int} (h1 : ∀ w, isW o w → WrI cf σ dk db w) (h2 : ∀ w v, isW o w → isW o v → w ≠ v → gI σ 451 w ≠ -1 → gI σ 451 w ≠ gI σ 451 v) : WW cf σ o dk db := by
  refine ⟨h1 _ (Or.inl rfl), h1 _ (Or.inr (Or.inl rfl)), h1 _ (Or.inr (Or.inr rfl)), ?_, ?_⟩
  · by_cases q : gI σ 451 o = -1
    · exact Or.inl q
    · exact Or.inr ⟨h2 _ _ (Or.inl rfl) (Or.inr (Or.inl rfl)) (by omega) q, h2 _ _ (Or.inl rfl) (Or.inr (Or.inr rfl)) (by omega) q⟩
  · by_cases q : gI σ 451 (o + 2) = -1
    · exact Or.inl q
    · exact Or.inr (h2 _ _ (Or.inr (Or.inl rfl)) (Or.inr (Or.inr rfl)) (by omega) q)
theorem eE_at {cf : Cf} {σ : St} {o w n : Int} {dk : Int → Int} {db : Int → Int → Int} (h : WW cf σ o dk db) (hw : isW o w) (hn : gI σ 451 w = n) (n1 : n ≠ -1) : eE σ o dk n = gI σ 452 w := by
  have a := h.all.2
  unfold eE
  rcases hw with e | e | e
  · rw [e] at hn ⊢
    rw [if_pos hn.symm]
  · have := a o w (Or.inl rfl) (Or.inr (Or.inl e)) (by omega)
    rw [e] at hn this ⊢
    rw [if_neg (fun q => this (by omega) (by omega)), if_pos hn.symm]
  · have x := a o w (Or.inl rfl) (Or.inr (Or.inr e)) (by omega)
    have y := a (o + 2) w (Or.inr (Or.inl rfl)) (Or.inr (Or.inr e)) (by omega)
    rw [e] at hn x y ⊢
    rw [if_neg (fun q => x (by omega) (by omega)), if_neg (fun q => y (by omega) (by omega)), if_pos hn.symm]
theorem eE_no {σ : St} {o n : Int} {dk : Int → Int} (h : ∀ w, isW o w → gI σ 451 w ≠ n) : eE σ o dk n = lmF dk n := by
  unfold eE
  rw [if_neg (fun q => h o (Or.inl rfl) q.symm), if_neg (fun q => h (o + 2) (Or.inr (Or.inl rfl)) q.symm), if_neg (fun q => h (o + 4) (Or.inr (Or.inr rfl)) q.symm)]
  rfl
/-- number n becomes longer; all else stays -/
def GRo (cf : Cf) (σ τ : St) (o : Int) (dk dk' : Int → Int) (db db' : Int → Int → Int) (n : Int) : Prop := (∀ m, m ≠ n → dk' m = dk m ∧ (0 ≤ m → eE τ o dk' m = eE σ o dk m)) ∧ (max 0 (dk n) ≤ max 0 (dk' n) ∧ eE σ o dk n ≤ eE τ o dk' n) ∧ (∀ m p, 0 ≤ m → m < cf.1 - 6 → p < eE σ o dk m → db' m p = db m p)
/-- behind a step of head w -/
theorem WW.step {cf : Cf} {σ τ : St} {o w n pl' : Int} {dk dk' : Int → Int} {db db' : Int → Int → Int} (hc : CfOK cf) (h : WW cf σ o dk db) (hk : ∀ n, 0 ≤ n → n < cf.1 - 6 → -1 ≤ dk n ∧ dk n ≤ cf.2.1 - 2) (hw : isW o w) (hn : gI σ 451 w = n) (n1 : n ≠ -1) (hdb : ∀ m p, (m ≠ n ∨ p < gI σ 452 w) → db' m p = db m p) (d1 : ∀ m, m ≠ n → dk' m = dk m) (d2 : dk' n = dk n ∨ dk' n = pl' / 128) (g1 : gI τ 451 w = n) (g2 : gI τ 452 w = pl') (hpl : gI σ 452 w ≤ pl') (hW : WrI cf τ dk' db' w) (fr : Fr (mWr w) σ τ) (ho : o = 0 ∨ o = 1) : WW cf τ o dk' db' ∧ GRo cf σ τ o dk dk' db db' n := by
  obtain ⟨a1, a2⟩ := h.all
  have nmu : ∀ v, isW o v → gI τ 451 v = gI σ 451 v := by
    intro v hv
    by_cases e : v = w
    · rw [e, g1, hn]
    · exact fr.i _ _ (fun q => by unfold mWr mBw at q; omega)
  have pmu : ∀ v, isW o v → v ≠ w → gI τ 452 v = gI σ 452 v := fun v hv e => fr.i _ _ (fun q => by unfold mWr mBw at q; omega)
  have W : WW cf τ o dk' db' := by
    refine WW.of (fun v hv => ?_) (fun v u hv hu ne => ?_)
    · by_cases e : v = w
      · rw [e]; exact hW
      · have b := (a1 v hv).fr fr (fun f x y q => by unfold mWr mBw at q; omega)
        have vn : gI τ 451 v ≠ -1 → gI τ 451 v ≠ n := by
          intro q
          rw [nmu v hv] at q ⊢
          rw [← hn]
          exact a2 v w hv hw e q
        exact b.x (fun q => d1 _ (vn q)) (fun q p _ _ => hdb _ _ (Or.inl (vn q)))
    · rw [nmu v hv, nmu u hu]; exact a2 v u hv hu ne
  have en : eE τ o dk' n = pl' := by rw [eE_at W hw g1 n1]; exact g2
  have es : eE σ o dk n = gI σ 452 w := eE_at h hw hn n1
  refine ⟨W, ⟨fun m ne => ⟨d1 m ne, fun m0 => ?_⟩, ⟨?_, by rw [en, es]; exact hpl⟩, fun m p m0 m1 pm => ?_⟩⟩
  · by_cases q : ∃ v, isW o v ∧ gI σ 451 v = m
    · obtain ⟨v, v1, v2⟩ := q
      have vw : v ≠ w := fun e => ne (by rw [← v2, e]; exact hn)
      have mm : m ≠ -1 := by omega
      rw [eE_at W v1 (by rw [nmu v v1]; exact v2) mm, eE_at h v1 v2 mm]
      exact pmu v v1 vw
    · have q1 : ∀ v, isW o v → gI σ 451 v ≠ m := fun v hv e => q ⟨v, hv, e⟩
      rw [eE_no q1, eE_no (fun v hv => by rw [nmu v hv]; exact q1 v hv)]
      unfold lmF; rw [d1 m ne]
  · rcases d2 with q | q
    · omega
    · have wi := (a1 w hw).le hn (by rcases a1 w hw with z | z; omega; have := z.1; have hR := hc.2.2.1; omega)
      omega
  · by_cases e : m = n
    · rw [e] at pm ⊢
      rw [es] at pm
      exact hdb n p (Or.inr pm)
    · exact hdb m p (Or.inl e)
theorem sp_put3 {tv : Nat → Int} {cf : Cf} {σ : St} {o : Int} {dk : Int → Int} {db : Int → Int → Int} {Sp : Int → Int → (Int → Int → Int) → Prop} {B : Int} (hc : CfOK cf) (ho : o = 0 ∨ o = 1) (hrk : RK σ) {w n pl a len q : Int} {f : Nat} {Q : Int → St → Prop} (hw : isW o w) (h : DJ tv cf σ o dk db Sp B) (hW : WW cf σ o dk db) (hn : gI σ 451 w = n) (n1 : n ≠ -1) (hpl : gI σ 452 w = pl) (hlen : 0 ≤ len) (hS : pl + len ≤ (cf.2.1 - 2) * 128) (hty : aty f = 1) (ha : 0 ≤ a) (hl : a + len ≤ aln cf f q) (hla : a + len < 2147483647) (hfm : ¬ mWr w f q)
    (hQ : ∀ τ dk', DJ tv cf τ o dk' (putB db n pl len (fun i => gA σ f q (a + i))) Sp B → WW cf τ o dk' (putB db n pl len (fun i => gA σ f q (a + i))) → GRo cf σ τ o dk dk' db (putB db n pl len (fun i => gA σ f q (a + i))) n → gI τ 451 w = n → gI τ 452 w = pl + len → Fr (mWr w) σ τ → RK τ → Q pl τ) : wp_Writer_put cf tv w f q a len Q σ := by
  have hm := hw.m ho
  have hD : DJ tv cf σ (w % 2) dk db Sp B := by rw [hm]; exact h
  refine sp_jput hc hrk hD (hW.all.1 w hw) hn n1 hpl hlen hS hty ha hl hla hfm (fun τ dk' H d1 d2 g1 g2 g3 fr k => ?_)
  rw [hm] at H
  obtain ⟨W, G⟩ := hW.step hc (fun n a b => h.k hc ⟨a, b⟩) hw hn n1 (db' := putB db n pl len (fun i => gA σ f q (a + i))) (fun m p e => by
    unfold putB
    rw [if_neg (fun z => by rcases e with e | e
                            · exact e z.1
                            · omega)]) d1 d2 g1 g2 (by omega) g3 fr ho
  exact hQ τ dk' H W G g1 g2 fr k
theorem sp_flush3 {tv : Nat → Int} {cf : Cf} {σ : St} {o : Int} {dk : Int → Int} {db : Int → Int → Int} {Sp : Int → Int → (Int → Int → Int) → Prop} {B : Int} (hc : CfOK cf) (ho : o = 0 ∨ o = 1) (hrk : RK σ) {w n pl pl' : Int} {Q : St → Prop} (hw : isW o w) (h : DJ tv cf σ o dk db Sp B) (hW : WW cf σ o dk db) (hn : gI σ 451 w = n) (n1 : n ≠ -1) (hpl : gI σ 452 w = pl) (hpl' : pl' = (pl + 127) / 128 * 128)
    (hQ : ∀ τ dk', DJ tv cf τ o dk' (putB db n pl (pl' - pl) (fun _ => 0)) Sp B → WW cf τ o dk' (putB db n pl (pl' - pl) (fun _ => 0)) → GRo cf σ τ o dk dk' db (putB db n pl (pl' - pl) (fun _ => 0)) n → gI τ 451 w = n → gI τ 452 w = pl' → 128 * max 0 (dk' n) = pl' → Fr (mWr w) σ τ → RK τ → Q τ) : wp_Writer_flush cf tv w Q σ := by
  have hm := hw.m ho
  have hD : DJ tv cf σ (w % 2) dk db Sp B := by rw [hm]; exact h
  refine sp_jflush hc hrk hD (hW.all.1 w hw) hn n1 hpl hpl' (fun τ dk' H d1 d2 g1 g2 g3 fr k => ?_)
  rw [hm] at H
  obtain ⟨W, G⟩ := hW.step hc (fun n a b => h.k hc ⟨a, b⟩) hw hn n1 (db' := putB db n pl (pl' - pl) (fun _ => 0)) (fun m p e => by
    unfold putB
    rw [if_neg (fun z => by rcases e with e | e
                            · exact e z.1
                            · omega)]) d1 d2 g1 g2 (by omega) g3 fr ho
  refine hQ τ dk' H W G g1 g2 ?_ fr k
  have hR := hc.2.2.1
  rcases g3 with z | ⟨z1, z2, z3, z4⟩
  · omega
  · rw [g1, g2] at z3; omega
def mWc (o w : Int) (f : Nat) (o' : Int) : Prop := mWr w f o' ∨ (f = 451 ∧ o' = w) ∨ (f = 323 ∧ o' = o)
/-- a head closes what it has -/
theorem sp_close3 {tv : Nat → Int} {cf : Cf} {σ : St} {o : Int} {dk : Int → Int} {db : Int → Int → Int} {Sp : Int → Int → (Int → Int → Int) → Prop} {B : Int} (hc : CfOK cf) (ho : o = 0 ∨ o = 1) (hrk : RK σ) {w n pl pl' : Int} {Q : St → Prop} (hw : isW o w) (h : DJ tv cf σ o dk db Sp B) (hW : WW cf σ o dk db) (hn : gI σ 451 w = n) (n1 : n ≠ -1) (hpl : gI σ 452 w = pl) (hpl' : pl' = (pl + 127) / 128 * 128)
    (hQ : ∀ τ dk', DJ tv cf τ o dk' (putB db n pl (pl' - pl) (fun _ => 0)) Sp B → WW cf τ o dk' (putB db n pl (pl' - pl) (fun _ => 0)) → GRo cf σ τ o dk dk' db (putB db n pl (pl' - pl) (fun _ => 0)) n → gI τ 451 w = -1 → eE τ o dk' n = pl' → lmF dk' n = pl' → gA τ 323 o = upF (gA σ 323 o) n 1 → Fr (mWc o w) σ τ → RK τ → Q τ) : wp_Writer_close cf tv w Q σ := by
  have hm := hw.m ho
  have hR := hc.2.2.1
  have wn := hW.all.1 w hw
  have rn : 4 + cf.2.2 ≤ n ∧ n < cf.1 - 6 := by
    rcases wn with z | z
    · omega
    · rw [hn] at z; exact z.1
  unfold wp_Writer_close
  rw [hn]
  refine ⟨fun _ => ?_, fun z => absurd z n1⟩
  refine sp_flush3 hc ho hrk hw h hW hn n1 hpl hpl' (fun τ dk' H W G g1 g2 g3 fr k _ => ?_)
  rw [g1, hm]
  refine ⟨⟨by omega, rn.2⟩, fun σ7 e7 σ8 e8 => ?_⟩
  have f8 : Fr (fun f o' => (f = 451 ∧ o' = w) ∨ (f = 323 ∧ o' = o)) τ σ8 := by rw [e8, e7]; exact ((Fr.rf _ _).sA (Or.inr ⟨rfl, rfl⟩)).sI (Or.inl ⟨rfl, rfl⟩)
  have nw8 : gI σ8 451 w = -1 := by rw [e8, gI_sI1]
  have nv8 : ∀ v, v ≠ w → gI σ8 451 v = gI τ 451 v := fun v ne => f8.i _ _ (fun q => by omega)
  have pv8 : ∀ v, gI σ8 452 v = gI τ 452 v := fun v => f8.i _ _ (fun q => by omega)
  obtain ⟨b1, b2⟩ := W.all
  have W8 : WW cf σ8 o dk' (putB db n pl (pl' - pl) (fun _ => 0)) := by
    refine WW.of (fun v hv => ?_) (fun v u hv hu ne nn => ?_)
    · by_cases e : v = w
      · left; rw [e]; exact nw8
      · have := b1 v hv
        unfold WrI at this ⊢
        rw [nv8 v e, pv8 v, f8.a 450 v (fun q => by omega)]
        exact this
    · by_cases e : v = w
      · rw [e] at nn; exact absurd nw8 nn
      · rw [nv8 v e] at nn ⊢
        by_cases e2 : u = w
        · rw [e2, nw8]; exact nn
        · rw [nv8 u e2]; exact b2 v u hv hu ne nn
  have en : eE σ8 o dk' n = lmF dk' n := eE_no (fun v hv q => by
    by_cases e : v = w
    · rw [e, nw8] at q; omega
    · rw [nv8 v e] at q
      exact b2 v w hv hw e (by omega) (by rw [q, g1]))
  have lme : lmF dk' n = pl' := by unfold lmF; exact g3
  have F : Fr (mWc o w) σ σ8 := (fr.mono (fun f o' q => Or.inl q)).tr (f8.mono (fun f o' q => Or.inr q))
  refine hQ σ8 dk' (H.fr f8 (fun f o' a q => by unfold rBI at a; omega)) W8 ⟨fun m ne => ⟨(G.1 m ne).1, fun m0 => ?_⟩, ⟨G.2.1.1, by rw [en, lme]; have := G.2.1.2; rw [eE_at W hw g1 n1, g2] at this; exact this⟩, G.2.2⟩ nw8 (by rw [en, lme]) lme ?_ F ?_
  · rw [← (G.1 m ne).2 m0]
    have mm : m ≠ -1 := by omega
    by_cases q : ∃ v, isW o v ∧ gI τ 451 v = m
    · obtain ⟨v, v1, v2⟩ := q
      have vw : v ≠ w := fun e => ne (by rw [← v2, e]; exact g1)
      rw [eE_at W8 v1 (by rw [nv8 v vw]; exact v2) mm, eE_at W v1 v2 mm]
      exact pv8 v
    · have q1 : ∀ v, isW o v → gI τ 451 v ≠ m := fun v hv e => q ⟨v, hv, e⟩
      rw [eE_no q1, eE_no (fun v hv => by
        by_cases e : v = w
        · rw [e, nw8]; exact fun z => mm z.symm
        · rw [nv8 v e]; exact q1 v hv)]
  · rw [e8]
    show gA σ7 323 o = _
    rw [e7, sA_up, fr.a 323 o (fun q => by unfold mWr mBw at q; omega)]
  · rw [e8, e7]
    exact (k.sA (by show rI 1; unfold rI; omega)).sI (by show rI (-1); unfold rI; omega)
