/-! blocks are found again: the walk -/
def mAt (o : Int) (f : Nat) (o' : Int) : Prop := (f = 135 ∧ o' = 0) ∨ (((258 ≤ f ∧ f ≤ 263) ∨ f = 265 ∨ (269 ≤ f ∧ f ≤ 273)) ∧ o' = o)
theorem mAt_rd (o : Int) : ∀ f o', mRd o f o' → mAt o f o' := fun f o' q => by unfold mRd at q; unfold mAt; omega
/-- block b would be taken for n -/
def clm (tv : Nat → Int) (cf : Cf) (σ : St) (lp : Int → Int → Int) (b n : Int) : Prop := gA σ 134 0 b = 0 ∧ 2 ≤ gA σ 133 0 b ∧ hNum (lp (b * cf.2.1 + 1)) = n ∧ whB tv cf σ lp b
/-- of the blocks below y that would be taken for n, s is the latest -/
def win (tv : Nat → Int) (cf : Cf) (σ : St) (lp : Int → Int → Int) (y n s : Int) : Prop := (0 ≤ s ∧ s < y) ∧ clm tv cf σ lp s n ∧ ∀ b, 0 ≤ b → b < y → b ≠ s → clm tv cf σ lp b n → hSer (lp (b * cf.2.1 + 1)) < hSer (lp (s * cf.2.1 + 1)) ∨ (hSer (lp (b * cf.2.1 + 1)) = hSer (lp (s * cf.2.1 + 1)) ∧ s < b)
def ATI (tv : Nat → Int) (cf : Cf) (σ : St) (lp : Int → Int → Int) (o : Int) (τ : St) (y : Int) : Prop := (∀ n, 0 ≤ n → n < cf.1 - 6 → (gA τ 258 o n = -1 ∧ ∀ b, 0 ≤ b → b < y → ¬ clm tv cf σ lp b n) ∨ win tv cf σ lp y n (gA τ 258 o n)) ∧ (∀ b, 0 ≤ b → b < y → (gA σ 134 0 b ≠ 0 → gA τ 259 o b = -3) ∧ (gA σ 134 0 b = 0 → gA σ 133 0 b = 1 → gA τ 259 o b = -1) ∧ (gA σ 134 0 b = 0 → 2 ≤ gA σ 133 0 b → gA τ 259 o b = if gA τ 258 o (hNum (lp (b * cf.2.1 + 1))) = b then hNum (lp (b * cf.2.1 + 1)) else -2))
def mCl (o : Int) (f : Nat) (o' : Int) : Prop := mRd o f o' ∨ ((f = 261 ∨ f = 259 ∨ f = 258) ∧ o' = o)
theorem sp_claim {tv : Nat → Int} {cf : Cf} (hc : CfOK cf) {σ : St} {lp : Int → Int → Int} {o b n : Int} {Q : St → Prop} (hF : FlI cf σ lp) (hb : 0 ≤ b ∧ b < cf.1) (hw : 2 ≤ gA σ 133 0 b) (hn : 0 ≤ n ∧ n < cf.1 - 6) (hpg : 0 ≤ hPgs (lp (b * cf.2.1 + 1))) (hN : hNum (lp (b * cf.2.1 + 1)) = n)
    (q1 : gI σ 269 o = n) (q2 : gI σ 270 o = hSer (lp (b * cf.2.1 + 1))) (q3 : gI σ 271 o = (if hCop (lp (b * cf.2.1 + 1)) = 1 then 1 else 0)) (q4 : gI σ 272 o = hPgs (lp (b * cf.2.1 + 1))) (q5 : gI σ 273 o = hChk (lp (b * cf.2.1 + 1)))
    (hbo : gA σ 258 o n ≠ -1 → (0 ≤ gA σ 258 o n ∧ gA σ 258 o n < cf.1) ∧ 2 ≤ gA σ 133 0 (gA σ 258 o n))
    (hQ : ∀ τ, Fr (mCl o) σ τ → gI τ 261 o = max (gI σ 261 o) (hSer (lp (b * cf.2.1 + 1))) → ((whB tv cf σ lp b ∧ (gA σ 258 o n = -1 ∨ hSer (lp (gA σ 258 o n * cf.2.1 + 1)) < hSer (lp (b * cf.2.1 + 1))) ∧ gA τ 258 o = upF (gA σ 258 o) n b ∧ ∀ x, 0 ≤ x → gA τ 259 o x = if x = b then n else if x = gA σ 258 o n then -2 else gA σ 259 o x) ∨ (¬ (whB tv cf σ lp b ∧ (gA σ 258 o n = -1 ∨ hSer (lp (gA σ 258 o n * cf.2.1 + 1)) < hSer (lp (b * cf.2.1 + 1)))) ∧ gA τ 258 o = gA σ 258 o ∧ ∀ x, gA τ 259 o x = if x = b then -2 else gA σ 259 o x)) → Q τ) : wp_Blocks_claim cf tv o b Q σ := by
  have hP : 8 ≤ cf.2.1 ∧ cf.2.1 ≤ 32 := hc.2.1
  have hB : 24 ≤ cf.1 ∧ cf.1 ≤ 64 := hc.1
  have wS := (hF b hb.1 hb.2).1
  have nr : ∀ f o', ((f < 135 ∨ 135 < f) ∧ f ≠ 262 ∧ f ≠ 263 ∧ (f < 269 ∨ 273 < f)) → ¬ mRd o f o' := fun f o' a q => by unfold mRd at q; omega
  -- the end: who carries it
  have stay : ∀ υ, Fr (fun f o' => mRd o f o' ∨ (f = 261 ∧ o' = o)) σ υ → gI υ 261 o = max (gI σ 261 o) (hSer (lp (b * cf.2.1 + 1))) → ¬ (whB tv cf σ lp b ∧ (gA σ 258 o n = -1 ∨ hSer (lp (gA σ 258 o n * cf.2.1 + 1)) < hSer (lp (b * cf.2.1 + 1)))) → wp_Blocks_claim_b133 cf tv o b Q υ := by
    intro υ f s no
    have nn : ∀ f o', ((f < 135 ∨ 135 < f) ∧ f ≠ 262 ∧ f ≠ 263 ∧ f ≠ 261 ∧ (f < 269 ∨ 273 < f)) → ¬ (mRd o f o' ∨ (f = 261 ∧ o' = o)) := fun f o' a q => by unfold mRd at q; omega
    unfold wp_Blocks_claim_b133
    refine ⟨hb, fun σ' e => ?_⟩
    rw [e]
    refine hQ _ ((f.mono (fun f o' q => q.imp (fun z => z) (fun z => ⟨Or.inl z.1, z.2⟩))).sA (Or.inr ⟨Or.inr (Or.inl rfl), rfl⟩)) (by rw [gI_sA]; exact s) (Or.inr ⟨no, ?_, fun x => ?_⟩)
    · funext x
      rw [sA_of (by decide), f.a 258 o (nn _ _ (by decide))]
    · rw [sA_if, f.a 259 o (nn _ _ (by decide))]
  have goes : ∀ υ, Fr (fun f o' => mRd o f o' ∨ (f = 261 ∧ o' = o)) σ υ → gI υ 261 o = max (gI σ 261 o) (hSer (lp (b * cf.2.1 + 1))) → whB tv cf σ lp b → (gA σ 258 o n = -1 ∨ hSer (lp (gA σ 258 o n * cf.2.1 + 1)) < hSer (lp (b * cf.2.1 + 1))) → ∀ υ', (gA σ 258 o n = -1 → υ' = υ) → (gA σ 258 o n ≠ -1 → υ' = sA υ 259 o (gA σ 258 o n) (-2)) → wp_Blocks_claim_b157 cf tv o b Q n υ' := by
    intro υ f s w l υ' u1 u2
    have nn : ∀ f o', ((f < 135 ∨ 135 < f) ∧ f ≠ 262 ∧ f ≠ 263 ∧ f ≠ 261 ∧ (f < 269 ∨ 273 < f)) → ¬ (mRd o f o' ∨ (f = 261 ∧ o' = o)) := fun f o' a q => by unfold mRd at q; omega
    have cx : ∀ x, 0 ≤ x → gA υ' 259 o x = if x = gA σ 258 o n then -2 else gA σ 259 o x := by
      intro x x0
      by_cases z : gA σ 258 o n = -1
      · rw [u1 z, z, if_neg (by omega), f.a 259 o (nn _ _ (by decide))]
      · rw [u2 z, sA_if, f.a 259 o (nn _ _ (by decide))]
    have bx : gA υ' 258 o = gA σ 258 o := by
      by_cases z : gA σ 258 o n = -1
      · rw [u1 z, f.a 258 o (nn _ _ (by decide))]
      · rw [u2 z]; funext x; rw [sA_of (by decide), f.a 258 o (nn _ _ (by decide))]
    have fx : Fr (mCl o) σ υ' := by
      by_cases z : gA σ 258 o n = -1
      · rw [u1 z]; exact f.mono (fun f o' q => q.imp (fun z => z) (fun z => ⟨Or.inl z.1, z.2⟩))
      · rw [u2 z]; exact (f.mono (fun f o' q => q.imp (fun z => z) (fun z => ⟨Or.inl z.1, z.2⟩))).sA (Or.inr ⟨Or.inr (Or.inl rfl), rfl⟩)
    have sx : gI υ' 261 o = max (gI σ 261 o) (hSer (lp (b * cf.2.1 + 1))) := by
      by_cases z : gA σ 258 o n = -1
      · rw [u1 z]; exact s
      · rw [u2 z, gI_sA]; exact s
    unfold wp_Blocks_claim_b157
    refine ⟨hb, fun σ1 e1 => ⟨hn, fun σ2 e2 => ?_⟩⟩
    rw [e2, e1]
    refine hQ _ ((fx.sA (Or.inr ⟨Or.inr (Or.inl rfl), rfl⟩)).sA (Or.inr ⟨Or.inr (Or.inr rfl), rfl⟩)) (by rw [gI_sA, gI_sA]; exact sx) (Or.inl ⟨w, l, ?_, fun x x0 => ?_⟩)
    · funext x
      unfold upF
      rw [sA_if, sA_of (by decide), bx]
    · rw [sA_of (by decide), sA_if, cx x x0]
  have main : ∀ t0 υ, Fr (mRd o) σ υ → (t0 = 0 → ¬ whB tv cf σ lp b) → (t0 ≠ 0 → whB tv cf σ lp b) → wp_Blocks_claim_b55 cf tv o b Q n (hSer (lp (b * cf.2.1 + 1))) t0 υ := by
    intro t0 υ f w0 w1
    unfold wp_Blocks_claim_b55
    intro σ21 e21
    have f21 : Fr (fun f o' => mRd o f o' ∨ (f = 261 ∧ o' = o)) σ σ21 := by rw [e21]; exact (f.mono (fun f o' q => Or.inl q)).sI (Or.inr ⟨rfl, rfl⟩)
    have s21 : gI σ21 261 o = max (gI σ 261 o) (hSer (lp (b * cf.2.1 + 1))) := by rw [e21, gI_sI, if_pos ⟨rfl, rfl⟩, f.i 261 o (nr _ _ (by decide))]
    have F21 : FlI cf σ21 lp := hF.fr f21 (fun f a c q => by unfold mRd at q; omega)
    have bo : gA σ21 258 o n = gA σ 258 o n := by rw [e21, gA_sI, f.a 258 o (nr _ _ (by decide))]
    have w21 : gA σ21 133 0 = gA σ 133 0 := by rw [show gA σ21 133 0 = gA υ 133 0 by rw [e21]; rfl, f.a 133 0 (nr _ _ (by decide))]
    clear e21
    refine ⟨hn, fun y6 e6 y7 e7 => ?_⟩
    rw [bo] at e6
    have b123 : ∀ υ y7, Fr (fun f o' => mRd o f o' ∨ (f = 261 ∧ o' = o)) σ υ → gI υ 261 o = max (gI σ 261 o) (hSer (lp (b * cf.2.1 + 1))) → (t0 ≠ 0 → y7 = 0 → ¬ (gA σ 258 o n = -1 ∨ hSer (lp (gA σ 258 o n * cf.2.1 + 1)) < hSer (lp (b * cf.2.1 + 1)))) → (t0 ≠ 0 → y7 ≠ 0 → (gA σ 258 o n = -1 ∨ hSer (lp (gA σ 258 o n * cf.2.1 + 1)) < hSer (lp (b * cf.2.1 + 1)))) → wp_Blocks_claim_b123 cf tv o b Q n t0 y6 y7 υ := by
      intro υ y7 f s l0 l1
      unfold wp_Blocks_claim_b123
      rw [e6]
      refine ⟨fun z => stay υ f s (fun q => w0 z q.1), fun z => ⟨fun y => ⟨fun x => ?_, fun x => ⟨(hbo x).1, fun σ' e' => ?_⟩⟩, fun y => stay υ f s (fun q => l0 z y q.2)⟩⟩
      · exact goes υ f s (w1 z) (l1 z y) υ (fun _ => rfl) (fun q => absurd x q)
      · exact goes υ f s (w1 z) (l1 z y) σ' (fun q => absurd q x) (fun _ => e')
    refine ⟨fun z => b123 σ21 y7 f21 s21 (fun q => absurd z q) (fun q => absurd z q), fun z => ⟨fun y => ?_, fun y => ?_⟩⟩
    · have : gA σ 258 o n = -1 := by
        apply Classical.byContradiction
        intro q
        rw [e6, if_neg q] at e7
        exact y e7
      exact b123 σ21 y7 f21 s21 (fun _ q => absurd q y) (fun _ _ => Or.inl this)
    · have ne : gA σ 258 o n ≠ -1 := by
        intro q
        rw [e6, if_pos q] at e7
        omega
      obtain ⟨r1, r2⟩ := hbo ne
      rw [e6]
      refine sp_readHead hc F21 r1 (fun r υ2 _ _ g2 fh _ _ y7' e7' => ?_)
      have g := (g2 (by rw [w21]; exact r2)).2.1
      rw [g] at e7'
      rw [← e6]
      refine b123 υ2 y7' (f21.tr (fh.mono (fun f o' q => Or.inl q))) (by rw [fh.i 261 o (nr _ _ (by decide))]; exact s21) (fun _ q => ?_) (fun _ q => ?_)
      · intro w
        rcases w with w | w
        · exact ne w
        · rw [if_neg (by omega)] at e7'; omega
      · refine Or.inr ?_
        apply Classical.byContradiction
        intro w
        rw [if_pos (by omega)] at e7'; exact q e7'
  unfold wp_Blocks_claim
  intro y2 e2 y3 e3
  rw [e2, e3, q1, q2, q3]
  refine ⟨fun z => ?_, fun z => ?_⟩
  · have nc : hCop (lp (b * cf.2.1 + 1)) ≠ 1 := by
      intro q; rw [if_pos q] at z; omega
    exact main 1 σ (Fr.rf _ _) (fun q => by omega) (fun _ => Or.inl nc)
  · have nc : hCop (lp (b * cf.2.1 + 1)) = 1 := by
      apply Classical.byContradiction
      intro q; rw [if_neg q] at z; exact z rfl
    unfold wp_Flash_written
    refine ⟨hb, fun _ _ => ?_⟩
    rw [q4, w32_id (by unfold rI; omega)]
    refine ⟨fun w => main 0 σ (Fr.rf _ _) (fun _ x => ?_) (fun q => absurd rfl q), fun w => ?_⟩
    · rcases x with x | x
      · exact x nc
      · omega
    · refine sp_checkOf hc hF hb ⟨hpg, by omega⟩ (fun υ f _ k => ?_)
      rw [f.i 273 o (fun q => by unfold mCk at q; omega), q5]
      have f' : Fr (mRd o) σ υ := f.mono (mCk_rd o)
      refine ⟨fun x => main 0 υ f' (fun _ y => ?_) (fun q => absurd rfl q), fun x => main 1 υ f' (fun q => by omega) (fun _ => Or.inr ⟨by omega, x⟩)⟩
      rcases y with y | y
      · exact y nc
      · exact x y.2
