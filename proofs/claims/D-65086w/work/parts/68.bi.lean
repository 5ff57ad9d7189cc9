/-! counting -/
def cnt (p : Int → Prop) [DecidablePred p] : Nat → Nat
  | 0 => 0
  | n + 1 => cnt p n + if p n then 1 else 0
theorem cnt_le {p q : Int → Prop} [DecidablePred p] [DecidablePred q] : ∀ n : Nat, (∀ i : Int, 0 ≤ i → i < n → p i → q i) → cnt p n ≤ cnt q n
  | 0, _ => Nat.le_refl _
  | n + 1, h => by
    show cnt p n + _ ≤ cnt q n + _
    have h1 := cnt_le n (fun i a b => h i a (by omega))
    have h2 := h n (by omega) (by omega)
    by_cases hp : p n
    · rw [if_pos hp, if_pos (h2 hp)]; omega
    · rw [if_neg hp]; omega
theorem cnt_eq {p q : Int → Prop} [DecidablePred p] [DecidablePred q] (n : Nat) (h : ∀ i : Int, 0 ≤ i → i < n → (p i ↔ q i)) : cnt p n = cnt q n :=
  Nat.le_antisymm (cnt_le n (fun i a b => (h i a b).mp)) (cnt_le n (fun i a b => (h i a b).mpr))
theorem cnt_one {p q : Int → Prop} [DecidablePred p] [DecidablePred q] {k : Int} : ∀ n : Nat, (∀ i : Int, 0 ≤ i → i < n → i ≠ k → p i → q i) → cnt p n ≤ cnt q n + 1
  | 0, _ => by show 0 ≤ _; omega
  | n + 1, h => by
    show cnt p n + _ ≤ cnt q n + _ + 1
    by_cases hk : (n : Int) = k
    · have h1 := cnt_le (p := p) (q := q) n (fun i a b => h i a (by omega) (by omega))
      split <;> split <;> omega
    · have h1 := cnt_one n (fun i a b => h i a (by omega))
      have h2 := h n (by omega) (by omega) hk
      by_cases hp : p n
      · rw [if_pos hp, if_pos (h2 hp)]; omega
      · rw [if_neg hp]; omega
theorem cnt_or {p q r : Int → Prop} [DecidablePred p] [DecidablePred q] [DecidablePred r] : ∀ n : Nat, (∀ i : Int, 0 ≤ i → i < n → p i → q i ∨ r i) → cnt p n ≤ cnt q n + cnt r n
  | 0, _ => Nat.le_refl _
  | n + 1, h => by
    show cnt p n + _ ≤ (cnt q n + _) + (cnt r n + _)
    have h1 := cnt_or n (fun i a b => h i a (by omega))
    have h2 := h n (by omega) (by omega)
    by_cases hp : p n
    · rw [if_pos hp]
      rcases h2 hp with q' | q'
      · rw [if_pos q']; omega
      · rw [if_pos q']; omega
    · rw [if_neg hp]; omega
theorem cnt_all {p : Int → Prop} [DecidablePred p] : ∀ n : Nat, (∀ i : Int, 0 ≤ i → i < n → p i) → cnt p n = n
  | 0, _ => rfl
  | n + 1, h => by
    show cnt p n + _ = _
    rw [cnt_all n (fun i a b => h i a (by omega)), if_pos (h n (by omega) (by omega))]
/-- a map without repetitions from those with p into 0 .. m - 1 -/
theorem cnt_inj {p : Int → Prop} [DecidablePred p] : ∀ (n m : Nat) (f : Int → Int), (∀ i : Int, 0 ≤ i → i < n → p i → 0 ≤ f i ∧ f i < m) → (∀ i j : Int, 0 ≤ i → i < n → 0 ≤ j → j < n → p i → p j → f i = f j → i = j) → cnt p n ≤ m
  | 0, m, _, _, _ => by show 0 ≤ m; omega
  | n + 1, m, f, h1, h2 => by
    show cnt p n + _ ≤ m
    by_cases hp : p n
    · rw [if_pos hp]
      obtain ⟨v0, v1⟩ := h1 n (by omega) (by omega) hp
      have := cnt_inj n (m - 1) (fun i => if f n < f i then f i - 1 else f i) (fun i a b hi => by
        obtain ⟨u0, u1⟩ := h1 i a (by omega) hi
        have ne : f i ≠ f n := fun q => by have := h2 i n a (by omega) (by omega) (by omega) hi hp q; omega
        split <;> omega) (fun i j a b c d hi hj e => by
        have ne : f i ≠ f n := fun q => by have := h2 i n a (by omega) (by omega) (by omega) hi hp q; omega
        have ne2 : f j ≠ f n := fun q => by have := h2 j n c (by omega) (by omega) (by omega) hj hp q; omega
        refine h2 i j a (by omega) c (by omega) hi hj ?_
        split at e <;> split at e <;> omega)
      omega
    · rw [if_neg hp]
      exact cnt_inj n m f (fun i a b hi => h1 i a (by omega) hi) (fun i j a b c d hi hj e => h2 i j a (by omega) c (by omega) hi hj e)
/-! blocks that carry numbers -/
/-- head of block b is read as a copy that is whole, or is no copy -/
def whB (tv : Nat → Int) (cf : Cf) (σ : St) (lp : Int → Int → Int) (b : Int) : Prop := hCop (lp (b * cf.2.1 + 1)) ≠ 1 ∨ (hPgs (lp (b * cf.2.1 + 1)) + 2 ≤ gA σ 133 0 b ∧ cko tv (fun k => lp (b * cf.2.1 + (2 + k))) (hPgs (lp (b * cf.2.1 + 1))).toNat = hChk (lp (b * cf.2.1 + 1)))
def BA (tv : Nat → Int) (cf : Cf) (σ : St) (o : Int) (lp : Int → Int → Int) (T : Int) (E : Int → Prop) : Prop := ∀ b, 0 ≤ b → b < cf.1 → ¬ E b → gA σ 134 0 b = 0 → (1 ≤ gA σ 133 0 b ∧ erH tv (lp (b * cf.2.1 + 0)) (gA σ 260 o b) ∧ 1 ≤ gA σ 260 o b ∧ gA σ 260 o b ≤ T) ∧ (2 ≤ gA σ 133 0 b → hdV tv (lp (b * cf.2.1 + 1)) ∧ (0 ≤ hNum (lp (b * cf.2.1 + 1)) ∧ hNum (lp (b * cf.2.1 + 1)) < cf.1 - 6) ∧ 0 ≤ hPgs (lp (b * cf.2.1 + 1)) ∧ 1 ≤ hSer (lp (b * cf.2.1 + 1)) ∧ hSer (lp (b * cf.2.1 + 1)) ≤ gI σ 261 o)
def BC (tv : Nat → Int) (cf : Cf) (σ : St) (o : Int) (lp : Int → Int → Int) (E : Int → Prop) : Prop := ∀ b, 0 ≤ b → b < cf.1 → ¬ E b → -3 ≤ gA σ 259 o b ∧ (gA σ 259 o b = -1 → gA σ 134 0 b = 0 ∧ gA σ 133 0 b = 1) ∧ (gA σ 259 o b = -3 → gA σ 134 0 b ≠ 0 ∨ (gI σ 265 o ≠ -1 ∧ b = gI σ 266 o)) ∧ (gA σ 134 0 b ≠ 0 → gA σ 259 o b = -3) ∧ (0 ≤ gA σ 259 o b → gA σ 259 o b < cf.1 - 6 ∧ gA σ 258 o (gA σ 259 o b) = b ∧ 2 ≤ gA σ 133 0 b ∧ hNum (lp (b * cf.2.1 + 1)) = gA σ 259 o b ∧ whB tv cf σ lp b)
def BN (cf : Cf) (σ : St) (o : Int) : Prop := ∀ n, 0 ≤ n → n < cf.1 - 6 → gA σ 258 o n = -1 ∨ ((0 ≤ gA σ 258 o n ∧ gA σ 258 o n < cf.1) ∧ gA σ 259 o (gA σ 258 o n) = n)
def BM (tv : Nat → Int) (cf : Cf) (σ : St) (o : Int) (lp : Int → Int → Int) : Prop := gI σ 265 o = -1 ∨ ∃ n t s : Int, gI σ 265 o = n ∧ gI σ 266 o = t ∧ gA σ 258 o n = s ∧ (0 ≤ n ∧ n < cf.1 - 6) ∧ (0 ≤ s ∧ s < cf.1) ∧ (0 ≤ t ∧ t < cf.1) ∧ gA σ 259 o t = -3 ∧ gA σ 134 0 t = 0 ∧ hNum (lp (t * cf.2.1 + 1)) = n ∧ hCop (lp (t * cf.2.1 + 1)) = 1 ∧ hPgs (lp (t * cf.2.1 + 1)) = gI σ 268 o ∧ gI σ 268 o + 2 = gA σ 133 0 s ∧ gA σ 133 0 t = 2 + gI σ 267 o ∧ (0 ≤ gI σ 267 o ∧ gI σ 267 o ≤ gI σ 268 o) ∧ hChk (lp (t * cf.2.1 + 1)) = cko tv (fun k => lp (s * cf.2.1 + (2 + k))) (gI σ 268 o).toNat ∧ (∀ k, 0 ≤ k → k < gI σ 267 o → ∀ i, 0 ≤ i → i < 128 → lp (t * cf.2.1 + (2 + k)) i = lp (s * cf.2.1 + (2 + k)) i) ∧ hSer (lp (s * cf.2.1 + 1)) < hSer (lp (t * cf.2.1 + 1))
/-- of two blocks that say one number the carrier is the later one -/
def BD (tv : Nat → Int) (cf : Cf) (σ : St) (o : Int) (lp : Int → Int → Int) (E : Int → Prop) : Prop := ∀ b b', 0 ≤ b → b < cf.1 → 0 ≤ b' → b' < cf.1 → b ≠ b' → ¬ E b → ¬ E b' → 0 ≤ gA σ 259 o b → gA σ 134 0 b' = 0 → 2 ≤ gA σ 133 0 b' → hNum (lp (b' * cf.2.1 + 1)) = gA σ 259 o b → whB tv cf σ lp b' → (hSer (lp (b' * cf.2.1 + 1)) < hSer (lp (b * cf.2.1 + 1)) ∨ (hSer (lp (b' * cf.2.1 + 1)) = hSer (lp (b * cf.2.1 + 1)) ∧ b < b')) ∨ (gI σ 265 o = gA σ 259 o b ∧ b' = gI σ 266 o)
/-- what waits to be erased and would be taken for a number: stale, or the beginning of what the number has -/
def BS (tv : Nat → Int) (cf : Cf) (σ : St) (o : Int) (lp : Int → Int → Int) (Sp : Int → Int → (Int → Int → Int) → Prop) (E : Int → Prop) : Prop := ∀ b, 0 ≤ b → b < cf.1 → ¬ E b → gA σ 259 o b = -2 → 2 ≤ gA σ 133 0 b → whB tv cf σ lp b → (∃ pg : Int → Int → Int, (∀ w, 0 ≤ w → w ≤ gA σ 133 0 b - 2 → Sp (hNum (lp (b * cf.2.1 + 1))) w pg) ∧ ∀ k, 0 ≤ k → k < gA σ 133 0 b - 2 → ∀ i, 0 ≤ i → i < 128 → lp (b * cf.2.1 + (2 + k)) i = pg k i) ∨ (∃ s, gA σ 258 o (hNum (lp (b * cf.2.1 + 1))) = s ∧ s ≠ -1 ∧ gA σ 133 0 b ≤ gA σ 133 0 s ∧ ∀ k, 0 ≤ k → k < gA σ 133 0 b - 2 → ∀ i, 0 ≤ i → i < 128 → lp (b * cf.2.1 + (2 + k)) i = lp (s * cf.2.1 + (2 + k)) i)
def BV (cf : Cf) (σ : St) (o : Int) (lp : Int → Int → Int) (vw : Int → Int) (vp : Int → Int → Int → Int) : Prop := ∀ n, 0 ≤ n → n < cf.1 - 6 → (gA σ 258 o n = -1 → vw n = -1) ∧ (gA σ 258 o n ≠ -1 → vw n = gA σ 133 0 (gA σ 258 o n) - 2 ∧ ∀ k, 0 ≤ k → k < vw n → ∀ i, 0 ≤ i → i < 128 → vp n k i = lp (gA σ 258 o n * cf.2.1 + (2 + k)) i)
def brk (σ : St) (n : Nat) : Nat := cnt (fun b => gA σ 134 0 b ≠ 0) n
/-- how many failures the house has asked for -/
def fl (σ : St) : Nat := min 4 (gI σ 73 0).toNat
theorem fl_4 (σ : St) : fl σ ≤ 4 := by unfold fl; omega
theorem fl_fr {M : Nat → Int → Prop} {σ τ : St} (f : Fr M σ τ) (n : ¬ M 73 0) : fl τ = fl σ := by
  unfold fl; rw [f.i _ _ n]
def BF (cf : Cf) (σ : St) : Prop := brk σ cf.1.toNat + (if 0 ≤ gI σ 136 0 then 1 else 0) ≤ fl σ
def BT (σ : St) (o T : Int) : Prop := (0 ≤ gI σ 261 o ∧ gI σ 261 o ≤ T) ∧ T < 1073741824
def BI (tv : Nat → Int) (cf : Cf) (σ : St) (o : Int) (lp : Int → Int → Int) (vw : Int → Int) (vp : Int → Int → Int → Int) (Sp : Int → Int → (Int → Int → Int) → Prop) (T : Int) (E : Int → Prop) : Prop := FlI cf σ lp ∧ BA tv cf σ o lp T E ∧ BC tv cf σ o lp E ∧ BN cf σ o ∧ BM tv cf σ o lp ∧ BD tv cf σ o lp E ∧ BS tv cf σ o lp Sp E ∧ BV cf σ o lp vw vp ∧ BF cf σ ∧ BT σ o T
/-- the fields on which the invariant rests -/
def rBI (o : Int) (f : Nat) (o' : Int) : Prop := ((130 ≤ f ∧ f ≤ 134) ∨ f = 136 ∨ f = 73) ∧ o' = 0 ∨ ((258 ≤ f ∧ f ≤ 261) ∨ (265 ≤ f ∧ f ≤ 268)) ∧ o' = o
theorem BI.fr {tv : Nat → Int} {cf : Cf} {σ τ : St} {o : Int} {lp : Int → Int → Int} {vw : Int → Int} {vp : Int → Int → Int → Int} {Sp : Int → Int → (Int → Int → Int) → Prop} {T : Int} {E : Int → Prop} {M : Nat → Int → Prop} (h : BI tv cf σ o lp vw vp Sp T E) (f : Fr M σ τ) (n : ∀ f o', rBI o f o' → ¬ M f o') : BI tv cf τ o lp vw vp Sp T E := by
  have e1 := f.a 133 0 (n _ _ (Or.inl ⟨by decide, rfl⟩))
  have e2 := f.a 134 0 (n _ _ (Or.inl ⟨by decide, rfl⟩))
  have e3 := f.i 136 0 (n _ _ (Or.inl ⟨by decide, rfl⟩))
  have e12 := fl_fr f (n _ _ (Or.inl ⟨by decide, rfl⟩))
  have e4 := f.a 258 o (n _ _ (Or.inr ⟨by decide, rfl⟩))
  have e5 := f.a 259 o (n _ _ (Or.inr ⟨by decide, rfl⟩))
  have e6 := f.a 260 o (n _ _ (Or.inr ⟨by decide, rfl⟩))
  have e7 := f.i 261 o (n _ _ (Or.inr ⟨by decide, rfl⟩))
  have e8 := f.i 265 o (n _ _ (Or.inr ⟨by decide, rfl⟩))
  have e9 := f.i 266 o (n _ _ (Or.inr ⟨by decide, rfl⟩))
  have e10 := f.i 267 o (n _ _ (Or.inr ⟨by decide, rfl⟩))
  have e11 := f.i 268 o (n _ _ (Or.inr ⟨by decide, rfl⟩))
  obtain ⟨h1, h2, h3, h4, h5, h6, h7, h8, h9, h10⟩ := h
  refine ⟨h1.fr f (fun f' a b => n f' 0 (Or.inl ⟨Or.inl ⟨a, by omega⟩, rfl⟩)), ?_, ?_, ?_, ?_, ?_, ?_, ?_, ?_, ?_⟩
  · unfold BA at *; rw [e1, e2, e6, e7]; exact h2
  · unfold BC whB at *; rw [e1, e2, e4, e5, e8, e9]; exact h3
  · unfold BN at *; rw [e4, e5]; exact h4
  · unfold BM at *; rw [e1, e2, e4, e5, e8, e9, e10, e11]; exact h5
  · unfold BD whB at *; rw [e1, e2, e5, e8, e9]; exact h6
  · unfold BS whB at *; rw [e1, e4, e5]; exact h7
  · unfold BV at *; rw [e1, e4]; exact h8
  · unfold BF brk at *; rw [e2, e3, e12]; exact h9
  · unfold BT at *; rw [e7]; exact h10
theorem BI.ex {tv : Nat → Int} {cf : Cf} {σ : St} {o : Int} {lp : Int → Int → Int} {vw : Int → Int} {vp : Int → Int → Int → Int} {Sp : Int → Int → (Int → Int → Int) → Prop} {T T' : Int} {E E' : Int → Prop} (h : BI tv cf σ o lp vw vp Sp T E) (hE : ∀ b, E b → E' b) (hT : T ≤ T') (hT' : T' < 1073741824) : BI tv cf σ o lp vw vp Sp T' E' := by
  obtain ⟨h1, h2, h3, h4, h5, h6, h7, h8, h9, h10⟩ := h
  refine ⟨h1, fun b a c d e => ?_, fun b a c d => h3 b a c (fun q => d (hE b q)), h4, h5, fun b b' x1 x2 x3 x4 x5 x6 x7 => h6 b b' x1 x2 x3 x4 x5 (fun q => x6 (hE b q)) (fun q => x7 (hE b' q)), fun b a c d => h7 b a c (fun q => d (hE b q)), h8, h9, ?_⟩
  · obtain ⟨⟨y1, y2, y3, y4⟩, y5⟩ := h2 b a c (fun q => d (hE b q)) e
    exact ⟨⟨y1, y2, y3, by omega⟩, y5⟩
  · obtain ⟨⟨y1, y2⟩, y3⟩ := h10
    exact ⟨⟨y1, by omega⟩, hT'⟩
