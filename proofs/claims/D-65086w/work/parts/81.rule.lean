def rlP (v i : Int) : Int := b8 (w32 (v + w32 (3 * i)))
theorem sp_rule {tv : Nat → Int} {cf : Cf} {σ : St} {o v : Int} {Q : St → Prop} (hrk : RK σ) (hQ : ∀ τ, (∀ i, 0 ≤ i → i < 128 → gA τ 263 o i = rlP v i) → Fr (fun f o' => f = 263 ∧ o' = o) σ τ → RK τ → Q τ) : wp_Blocks_rule cf tv o v Q σ := by
  unfold wp_Blocks_rule
  refine lQ1_rule (fun y τ => (0 ≤ y ∧ y ≤ 128) ∧ (∀ i, 0 ≤ i → i < y → gA τ 263 o i = rlP v i) ∧ Fr (fun f o' => f = 263 ∧ o' = o) σ τ ∧ RK τ) (fun y _ => (128 - y).toNat) ?_ 0 σ ⟨by omega, fun i a b => by omega, Fr.rf _ _, hrk⟩
  intro K y τ hI hK
  obtain ⟨h1, h2, h3, h4⟩ := hI
  unfold wp_Blocks_rule_L2
  refine ⟨fun q => hQ τ (fun i a b => h2 i a (by omega)) h3 h4, fun q => ⟨by omega, fun σ5 e5 y6 e6 => ?_⟩⟩
  rw [w32_id (by unfold rI; omega)] at e6
  rw [e6]
  refine hK _ _ ⟨by omega, fun i a b => ?_, ?_, ?_⟩ (by omega)
  · rw [e5, sA_if]
    by_cases e : i = y
    · rw [if_pos e, e]; rfl
    · rw [if_neg e]; exact h2 i a (by omega)
  · rw [e5]; exact h3.sA ⟨rfl, rfl⟩
  · rw [e5]; exact h4.sA (b8_r _)
theorem sp_writeRule {tv : Nat → Int} {cf : Cf} {σ : St} {o : Int} {lp : Int → Int → Int} {vw : Int → Int} {vp : Int → Int → Int → Int} {Sp : Int → Int → (Int → Int → Int) → Prop} {T : Int} (hc : CfOK cf) {n v : Int} {Q : Int → St → Prop} (h : BI tv cf σ o lp vw vp Sp T NoE) (hn : 0 ≤ n ∧ n < cf.1 - 6) (hkP : 2 + max 0 (vw n) < cf.2.1) (hT : T + 12 < 1073741824)
    (hQ : ∀ τ lp', BI tv cf τ o lp' (upF vw n (max 0 (vw n) + 1)) (upV vp n (upP (vp n) (max 0 (vw n)) (rlP v))) Sp (T + 12) NoE → Fr (fun f o' => mBw o f o' ∨ (f = 264 ∧ o' = o)) σ τ → RK τ → Q (max 0 (vw n)) τ) : wp_Blocks_writeRule cf tv o n v Q σ := by
  unfold wp_Blocks_writeRule
  refine sp_written h hc hn (fun _ rk => ?_)
  refine sp_rule rk (fun σ1 c1 f1 r1 _ => ⟨by omega, fun σ2 e2 => ?_⟩)
  have f2 : Fr (fun f o' => (f = 263 ∨ f = 264) ∧ o' = o) σ σ2 := by
    rw [e2]; exact (f1.mono (fun f o' q => ⟨Or.inl q.1, q.2⟩)).sAr ⟨Or.inr rfl, rfl⟩
  have r2 : RK σ2 := by
    rw [e2]
    refine r1.sAr (fun i => ?_)
    unfold cpy
    split
    · exact r1.2 263 o _
    · exact r1.2 264 o _
  have d2 : ∀ i, 0 ≤ i → i < 128 → gA σ2 264 o (0 + i) = rlP v i := by
    intro i a b
    rw [e2, gA_sAr1]
    unfold cpy
    rw [if_pos (by omega)]
    rw [← c1 i a b]
    congr 1
    omega
  have H := h.fr f2 (fun f o' a q => by unfold rBI at a; omega)
  refine sp_bwrite hc r2 H hn rfl hkP (Or.inr (by decide)) (by decide) (by omega) (by rw [(al128 cf o).2.2]; omega) (fun q => by unfold mBw at q; omega) hT (fun τ lp' H2 f3 r3 _ => ?_)
  refine hQ τ lp' (H2.vpx ?_) ((f2.mono (fun f o' q => by unfold mBw; omega)).tr (f3.mono (fun f o' q => Or.inl q))) r3
  intro n' n0 n1 j j0 j1 i i0 i1
  unfold upV
  by_cases e : n' = n
  · rw [if_pos e, if_pos e]
    unfold upP
    by_cases e2 : j = max 0 (vw n)
    · rw [if_pos e2, if_pos e2, d2 i i0 i1]
    · rw [if_neg e2, if_neg e2]
  · rw [if_neg e, if_neg e]
