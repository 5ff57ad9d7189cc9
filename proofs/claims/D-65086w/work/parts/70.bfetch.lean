/-! free blocks -/
def NoE : Int → Prop := fun _ => False
def OneE (b : Int) : Int → Prop := fun x => x = b
def mBl (o : Int) (f : Nat) (o' : Int) : Prop := ((130 ≤ f ∧ f ≤ 136) ∧ o' = 0) ∨ ((256 ≤ f ∧ f ≤ 273) ∧ o' = o)
/-- some block is free, or waits to be erased -/
theorem BI.some {tv : Nat → Int} {cf : Cf} {σ : St} {o : Int} {lp : Int → Int → Int} {vw : Int → Int} {vp : Int → Int → Int → Int} {Sp : Int → Int → (Int → Int → Int) → Prop} {T : Int} (hc : CfOK cf) (h : BI tv cf σ o lp vw vp Sp T NoE) : ∃ b, (0 ≤ b ∧ b < cf.1) ∧ (gA σ 259 o b = -1 ∨ gA σ 259 o b = -2) := by
  obtain ⟨h1, h2, h3, h4, h5, h6, h7, h8, h9, h10⟩ := h
  have hB : 24 ≤ cf.1 ∧ cf.1 ≤ 64 := hc.1
  apply Classical.byContradiction
  intro hno
  have hall : ∀ b, 0 ≤ b → b < cf.1 → 0 ≤ gA σ 259 o b ∨ gA σ 259 o b = -3 := by
    intro b b0 b1
    have c1 := (h3 b b0 b1 (fun q => q)).1
    have : ¬ (gA σ 259 o b = -1 ∨ gA σ 259 o b = -2) := fun q => hno ⟨b, ⟨b0, b1⟩, q⟩
    omega
  have e0 : cnt (fun _ => True) cf.1.toNat = cf.1.toNat := cnt_all _ (fun _ _ _ => trivial)
  have e1 : cnt (fun _ => True) cf.1.toNat ≤ cnt (fun b => 0 ≤ gA σ 259 o b) cf.1.toNat + cnt (fun b => gA σ 259 o b = -3) cf.1.toNat := cnt_or _ (fun i a b _ => hall i a (by omega))
  have e2 : cnt (fun b => 0 ≤ gA σ 259 o b) cf.1.toNat ≤ (cf.1 - 6).toNat := by
    refine cnt_inj _ _ (fun b => gA σ 259 o b) (fun i a b hi => ?_) (fun i j a b c d hi hj e => ?_)
    · have := ((h3 i a (by omega) (fun q => q)).2.2.2.2 hi).1
      omega
    · have x1 := ((h3 i a (by omega) (fun q => q)).2.2.2.2 hi).2.1
      have x2 := ((h3 j c (by omega) (fun q => q)).2.2.2.2 hj).2.1
      rw [← x1, ← x2, e]
  have e3 : cnt (fun b => gA σ 259 o b = -3) cf.1.toNat ≤ brk σ cf.1.toNat + 1 := by
    refine cnt_one (k := gI σ 266 o) _ (fun i a b ne hi => ?_)
    rcases (h3 i a (by omega) (fun q => q)).2.2.1 hi with q | q
    · exact q
    · exact absurd q.2 ne
  have e4 : brk σ cf.1.toNat ≤ 4 := by have := fl_4 σ; unfold BF at h9; omega
  omega
theorem sp_freeOne {tv : Nat → Int} {cf : Cf} (hc : CfOK cf) {σ : St} {o most : Int} {Q : Int → St → Prop} (hQ : ∀ r, (r = -1 → ∀ b, 0 ≤ b → b < cf.1 → gA σ 259 o b ≠ -1) → (r ≠ -1 → (0 ≤ r ∧ r < cf.1) ∧ gA σ 259 o r = -1) → Q r σ) : wp_Blocks_freeOne cf tv o most Q σ := by
  have hB : 24 ≤ cf.1 ∧ cf.1 ≤ 64 := hc.1
  unfold wp_Blocks_freeOne
  refine lQ2_rule (fun y2 y3 τ => τ = σ ∧ (0 ≤ y3 ∧ y3 ≤ cf.1) ∧ (y2 = -1 → ∀ b, 0 ≤ b → b < y3 → gA σ 259 o b ≠ -1) ∧ (y2 ≠ -1 → (0 ≤ y2 ∧ y2 < cf.1) ∧ gA σ 259 o y2 = -1)) (fun _ y3 _ => (cf.1 - y3).toNat) ?_ (-1) 0 σ ⟨rfl, by omega, fun _ b a c => by omega, fun q => absurd rfl q⟩
  intro K y2 y3 τ hI hK
  obtain ⟨rfl, h3, i1, i2⟩ := hI
  have step : ∀ z, (z = -1 → ∀ b, 0 ≤ b → b < y3 + 1 → gA τ 259 o b ≠ -1) → (z ≠ -1 → (0 ≤ z ∧ z < cf.1) ∧ gA τ 259 o z = -1) → y3 < cf.1 → wp_Blocks_freeOne_b69 cf tv o most Q K z y3 τ := by
    intro z a b c
    unfold wp_Blocks_freeOne_b69
    intro y hy
    rw [w32_id (by unfold rI; omega)] at hy
    rw [hy]
    exact hK _ _ _ ⟨rfl, by omega, a, b⟩ (by omega)
  have here : gA τ 259 o y3 = -1 → y3 < cf.1 → wp_Blocks_freeOne_b67 cf tv o most Q (wp_Blocks_freeOne_b69 cf tv o most Q K) y3 τ := by
    intro a b
    unfold wp_Blocks_freeOne_b67
    exact step y3 (fun q => by omega) (fun _ => ⟨by omega, a⟩) b
  unfold wp_Blocks_freeOne_L4
  refine ⟨fun h => ?_, fun h => ⟨by omega, fun hn => ?_, fun hy => ⟨fun hz => here hy (by omega), fun hz => ?_⟩⟩⟩
  · have : y3 = cf.1 := by omega
    subst this
    exact hQ y2 i1 i2
  · refine step y2 (fun q b a c => ?_) i2 (by omega)
    by_cases e : b = y3
    · rw [e]; exact hn
    · exact i1 q b a (by omega)
  · have k2 := i2 hz
    have stay : wp_Blocks_freeOne_b69 cf tv o most Q K y2 y3 τ := step y2 (fun q => absurd q hz) i2 (by omega)
    refine ⟨fun _ => ⟨by omega, by omega, fun _ => stay, fun _ => here hy (by omega)⟩, fun _ => ⟨by omega, by omega, fun _ => stay, fun _ => here hy (by omega)⟩⟩
theorem brk_up {σ τ : St} {b : Int} {n : Nat} (h : ∀ b', b' ≠ b → gA τ 134 0 b' = gA σ 134 0 b') : brk τ n ≤ brk σ n + 1 := by
  unfold brk
  exact cnt_one (k := b) n (fun i a c ne hi => by rw [← h i ne]; exact hi)
/-- a block that is set aside is lost -/
theorem sp_lose {tv : Nat → Int} {cf : Cf} {σ : St} {o : Int} {lp : Int → Int → Int} {vw : Int → Int} {vp : Int → Int → Int → Int} {Sp : Int → Int → (Int → Int → Int) → Prop} {T : Int} (hc : CfOK cf) {E E' : Int → Prop} {b : Int} {Q : St → Prop} (h : BI tv cf σ o lp vw vp Sp T E) (hb : 0 ≤ b ∧ b < cf.1) (hE : E b) (hE' : ∀ b', ¬ E' b' → b' ≠ b → ¬ E b') (hnb : ∀ n, 0 ≤ n → n < cf.1 - 6 → gA σ 258 o n ≠ b) (ht : gI σ 265 o = -1 ∨ gI σ 266 o ≠ b) (hf : gI σ 136 0 < 0) (hk : brk σ cf.1.toNat + 1 ≤ fl σ)
    (hQ : ∀ τ, BI tv cf τ o lp vw vp Sp T E' → (∀ b', b' ≠ b → gA τ 259 o b' = gA σ 259 o b') → gA τ 259 o b = -3 → (∀ x, gA τ 134 0 x = if x = b then 1 else gA σ 134 0 x) → Fr (fun f o' => (f = 259 ∧ o' = o) ∨ (f = 134 ∧ o' = 0)) σ τ → Q τ) : wp_Blocks_lose cf tv o b Q σ := by
  unfold wp_Blocks_lose wp_Flash_giveUp
  refine ⟨hb, fun σ1 e1 => ⟨hb, fun σ2 e2 => ?_⟩⟩
  intro _
  have fr : Fr (fun f o' => (f = 259 ∧ o' = o) ∨ (f = 134 ∧ o' = 0)) σ σ2 := by
    rw [e2, e1]; exact ((Fr.rf _ σ).sA (Or.inl ⟨rfl, rfl⟩)).sA (Or.inr ⟨rfl, rfl⟩)
  have c2 : ∀ x, gA σ2 259 o x = if x = b then -3 else gA σ 259 o x := by
    intro x; rw [e2, gA_sA, if_neg (fun q => absurd q.1 (by decide)), e1, gA_sA]
    by_cases q : x = b
    · rw [if_pos ⟨rfl, rfl, q⟩, if_pos q]
    · rw [if_neg (fun z => q z.2.2), if_neg q]
  have b2 : ∀ x, gA σ2 134 0 x = if x = b then 1 else gA σ 134 0 x := by
    intro x; rw [e2, gA_sA]
    by_cases q : x = b
    · rw [if_pos ⟨rfl, rfl, q⟩, if_pos q]
    · rw [if_neg (fun z => q z.2.2), if_neg q, e1, gA_sA, if_neg (fun q => absurd q.1 (by decide))]
  clear e1 e2
  obtain ⟨h1, -, -, -, -, -, -, -, -, h10⟩ := id h
  have nm : ∀ f : Nat, ∀ o' : Int, f ≠ 259 → f ≠ 134 → ¬ ((f = 259 ∧ o' = o) ∨ (f = 134 ∧ o' = 0)) := fun f o' x y q => by omega
  have ew := fr.a 133 0 (nm _ _ (by decide) (by decide))
  have ef := fr.i 136 0 (nm _ _ (by decide) (by decide))
  have hup : BI tv cf σ2 o lp vw vp Sp T E := by
    refine h.upd hc hE hnb ht (h1.fr fr (fun f a c => nm f 0 (by omega) (by omega))) (fun _ _ _ _ _ => rfl) (fun b' q => by rw [ew]) (fun b' q => by rw [b2, if_neg q]) (fun b' q => by rw [c2, if_neg q]) (fun b' q => by rw [fr.a 260 o (nm _ _ (by decide) (by decide))]) (fr.a _ _ (nm _ _ (by decide) (by decide))) ⟨fr.i _ _ (nm _ _ (by decide) (by decide)), fr.i _ _ (nm _ _ (by decide) (by decide)), fr.i _ _ (nm _ _ (by decide) (by decide)), fr.i _ _ (nm _ _ (by decide) (by decide))⟩ ?_ ⟨Int.le_refl _, h10.2⟩ ?_
    · rw [fr.i 261 o (nm _ _ (by decide) (by decide))]; exact ⟨Int.le_refl _, h10.1.2⟩
    · unfold BF
      have := brk_up (σ := σ) (τ := σ2) (b := b) (n := cf.1.toNat) (fun b' q => by rw [b2, if_neg q])
      rw [ef, if_neg (by omega), fl_fr fr (nm _ _ (by decide) (by decide))]; omega
  refine hQ σ2 ?_ (fun b' q => by rw [c2, if_neg q]) (by rw [c2, if_pos rfl]) b2 fr
  refine hup.adm (b := b) hE' ?_ ?_ ?_ ?_ ?_
  · intro x x0 x1 xE xb
    have : x = b := Classical.byContradiction (fun q => xE q)
    rw [this, b2, if_pos rfl] at xb
    exact absurd xb (by decide)
  · intro x x0 x1 xE
    have : x = b := Classical.byContradiction (fun q => xE q)
    rw [this, c2, if_pos rfl, b2, if_pos rfl]
    exact ⟨by omega, fun q => by omega, fun _ => Or.inl (by decide), fun _ => rfl, fun q => by omega⟩
  · intro b' _ _ _ _ _ q; rw [b2, if_pos rfl] at q; exact absurd q (by decide)
  · intro b' _ _ _ _ q; rw [c2, if_pos rfl] at q; omega
  · intro x x0 x1 xE q
    have : x = b := Classical.byContradiction (fun q => xE q)
    rw [this, c2, if_pos rfl] at q; omega
