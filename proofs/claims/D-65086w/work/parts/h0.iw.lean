/-! Index.written over the store -/
theorem oSm_mono {g s : Int → Int} {n : Int} : ∀ {j k : Nat}, j ≤ k → (∀ i : Int, 0 ≤ i → i < k → 0 ≤ s i) → oSm g s n j ≤ oSm g s n k
  | j, 0, h, _ => by rw [show j = 0 by omega]; exact Int.le_refl _
  | j, k + 1, h, hs => by
    by_cases e : j = k + 1
    · rw [e]; exact Int.le_refl _
    · have a := oSm_mono (g := g) (s := s) (n := n) (j := j) (k := k) (by omega) (fun i i0 i1 => hs i i0 (by omega))
      have b := hs k (by omega) (by omega)
      show oSm g s n j ≤ oSm g s n k + if g k = n then s k else 0
      split <;> omega
theorem sp_siw {tv : Nat → Int} {cf : Cf} {σ : St} {dk : Int → Int} {db : Int → Int → Int} {L : List (Int × Int × Int × Int × Int × Int)} {Q : St → Prop} (hc : CfOK cf) (h : SA tv cf σ dk db L)
    (hQ : ∀ τ, SA tv cf τ dk db L → gI τ 390 0 = 0 → (∀ m, gA τ 324 0 m = gA σ 324 0 m - oS σ 0 m) → Fr (fun f o' => (f = 324 ∨ f = 390) ∧ o' = 0) σ τ → Q τ) : wp_Index_written cf tv 0 (fun σ1 => RK σ1 → Q σ1) σ := by
  have hR : 0 ≤ cf.2.2 ∧ cf.2.2 ≤ 4 := hc.2.2
  have hB : 24 ≤ cf.1 ∧ cf.1 ≤ 64 := hc.1
  have nn := fun {m : Int} (hm : 0 ≤ m) => h.nn hc hm
  have h' := h
  obtain ⟨⟨w1, w2⟩, ⟨x1, x2, x3⟩, nm, wu, kn, ol, tb, l0⟩ := h'
  have i8 : 0 ≤ gI σ 390 0 ∧ gI σ 390 0 ≤ 640 := by
    obtain ⟨l, z, i1, i2, i3, i4, i5, i6, i7, i8, i9⟩ := x1.1
    omega
  have sz : ∀ i : Int, 0 ≤ i → i < (gI σ 390 0).toNat → 0 ≤ gA σ 389 0 i := fun i i0 i1 => by have := ol i i0 (by omega); omega
  have out : ∀ m, (m < 4 + cf.2.2 ∨ cf.1 - 6 ≤ m) → ∀ k : Nat, (k : Int) ≤ gI σ 390 0 → oSm (gA σ 388 0) (gA σ 389 0) m k = 0 := by
    intro m hm k
    induction k with
    | zero => intro _; rfl
    | succ k ih =>
      intro hk
      have a := ih (by omega)
      have b := ol k (by omega) (by omega)
      show oSm _ _ m k + (if gA σ 388 0 k = m then gA σ 389 0 k else 0) = 0
      rw [a, if_neg (by omega)]; rfl
  refine sp_iwritten i8 (fun i i0 i1 => by have := ol i i0 i1; omega) (fun k m hk => ?_) (fun τ lv od fr rk => ?_)
  · have rl : rI (gA σ 324 0 m) := w2.ai _ _ _ (by decide)
    by_cases q : 4 + cf.2.2 ≤ m ∧ m < cf.1 - 6
    · have a1 := oSm_nn (g := gA σ 388 0) (s := gA σ 389 0) (n := m) k (fun i i0 i1 => sz i i0 (by omega))
      have a2 := oSm_mono (g := gA σ 388 0) (s := gA σ 389 0) (n := m) (j := k) (k := (gI σ 390 0).toNat) (by omega) sz
      have a3 := nn (m := m) (by omega)
      have a4 := (nm m q.1 q.2).2.2.1
      have a5 : oS σ 0 m = oSm (gA σ 388 0) (gA σ 389 0) m (gI σ 390 0).toNat := rfl
      unfold rI at *
      omega
    · rw [out m (by omega) k hk, Int.sub_zero]; exact rl
  · have o0 : ∀ m, (m < 4 + cf.2.2 ∨ cf.1 - 6 ≤ m) → oS σ 0 m = 0 := fun m hm => out m hm _ (by omega)
    have ot : ∀ m, oS τ 0 m = 0 := fun m => by unfold oS; rw [od]; rfl
    have fa : Fr mAc σ τ := fr.mono (fun f o' q => ⟨by omega, q.2⟩)
    have nt : ∀ g, (g = 214 ∨ g = 216) → gI τ g 0 = gI σ g 0 := fun g hg => fr.i _ _ (fun q => by omega)
    have tbe : ∀ m, tbS τ m = tbS σ m := fun m => by unfold tbS; rw [nt 214 (by omega), nt 216 (by omega)]
    refine hQ τ (h.acc fa rk hR.1 (Or.inr od) (fun m m0 m1 => ?_) (fun m m0 m1 => ?_) (fun m m0 m1 => ?_) ?_) od lv fr
    · obtain ⟨a1, a2, a3, a4, a5, a6, a7⟩ := nm m m0 m1
      have a8 := nn (m := m) (by omega)
      rw [lv, ot, tbe]
      refine ⟨by omega, by omega, fun q => ?_⟩
      have := (a2 q).2.1
      omega
    · have a8 := nn (m := m) m0
      have a9 := x1.2.2 m m0 m1
      rw [lv]
      by_cases q : 4 + cf.2.2 ≤ m
      · have := (nm m q m1).2.2.1
        omega
      · rw [o0 m (by omega)]; omega
    · rw [lv, l0 m m0 m1, o0 m (by omega)]; rfl
    · rw [nt 214 (by omega), nt 216 (by omega)]; exact tb
