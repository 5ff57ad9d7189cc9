/-! a knot that was fresh is on the flash -/
theorem WT.sub {σ : St} : ∀ {l : Nat} {mn z lo hi : Int}, WT σ l mn 8 z lo hi → ∀ {x : Int}, x ∈ kl σ l z → ∃ (l' : Nat) (mn' lo' hi' : Int), l' ≤ l ∧ WT σ l' mn' 8 x lo' hi'
  | 0, mn, z, lo, hi, h, x, hx => ⟨0, mn, lo, hi, Nat.le_refl _, by rw [List.mem_singleton.mp hx]; exact h⟩
  | l + 1, mn, z, lo, hi, h, x, hx => by
    rcases List.mem_cons.mp hx with e | e
    · exact ⟨l + 1, mn, lo, hi, Nat.le_refl _, by rw [e]; exact h⟩
    · obtain ⟨i, i1, i2⟩ := cat_mem e
      have ic : i < gI σ 577 z := by have := h.2.2.1; omega
      obtain ⟨l', mn', lo', hi', a, b⟩ := (h.2.2.2 i i1.1 ic).2.2.sub i2
      exact ⟨l', mn', lo', hi', by omega, b⟩
theorem knG.sh {tv : Nat → Int} {σ : St} {x p q : Int} {g h : Int → Int} (w : knG tv σ x g p) (hc : 0 ≤ gI σ 577 x) (e : ∀ i, 0 ≤ i → i < szK (gI σ 577 x) → g (p + i) = h (q + i)) : knG tv σ x h q := by
  obtain ⟨w1, w2, w3, w4, w5⟩ := w
  have sz : szK (gI σ 577 x) = (32 + 28 * gI σ 577 x + 7) / 8 * 8 := rfl
  have r4 : ∀ k, 0 ≤ k → k + 4 ≤ szK (gI σ 577 x) → rI4 g (p + k) = rI4 h (q + k) := fun k k0 k1 => rI4_sh (fun i i0 i1 => by rw [Int.add_assoc, Int.add_assoc]; exact e _ (by omega) (by omega))
  have r8 : ∀ k, 0 ≤ k → k + 8 ≤ szK (gI σ 577 x) → rL8 g (p + k) = rL8 h (q + k) := fun k k0 k1 => rL8_sh (fun i i0 i1 => by rw [Int.add_assoc, Int.add_assoc]; exact e _ (by omega) (by omega))
  refine ⟨w1.ext e, ?_, ?_, ?_, fun k k0 k1 => ?_⟩
  · rw [← e 16 (by omega) (by omega)]; exact w2
  · rw [← r4 24 (by omega) (by omega)]; exact w3
  · rw [← r4 28 (by omega) (by omega)]; exact w4
  · have y := w5 k k0 k1
    rw [Int.add_assoc, Int.add_assoc, Int.add_assoc, Int.add_assoc, Int.add_assoc] at y ⊢
    rw [← r8 _ (by omega) (by omega), ← r8 _ (by omega) (by omega), ← r4 _ (by omega) (by omega), ← r4 _ (by omega) (by omega), ← r4 _ (by omega) (by omega)]
    exact y
/-- sums where one knot becomes other than fresh -/
theorem kS_one {σ τ : St} {x n m : Int} : ∀ {K : List Int}, K.Nodup → x ∈ K → fz σ x m = 0 → fz τ x m = n → (∀ y, y ∈ K → y ≠ x → fz τ y m = fz σ y m) → kS τ K m = kS σ K m + n
  | [], _, hx, _, _, _ => absurd hx List.not_mem_nil
  | y :: K, nd, hx, h1, h2, h3 => by
    rw [kS_cons, kS_cons]
    have nd' := List.nodup_cons.mp nd
    by_cases e : y = x
    · rw [e] at nd' ⊢
      rw [h1, h2, kS_ext (σ := σ) (τ := τ) (fun z hz => h3 z (List.mem_cons_of_mem _ hz) (fun w => nd'.1 (by rw [← w]; exact hz)))]
      omega
    · have hx' : x ∈ K := (List.mem_cons.mp hx).resolve_left (fun w => e w.symm)
      rw [h3 y List.mem_cons_self e, kS_one nd'.2 hx' h1 h2 (fun z hz => h3 z (List.mem_cons_of_mem _ hz))]
      omega
theorem nfr_one {σ τ : St} {x : Int} : ∀ {K : List Int}, K.Nodup → (∀ y, y ∈ K → y ≠ x → gI τ 584 y = gI σ 584 y) → nfr τ K ≤ nfr σ K + 1
  | [], _, _ => Nat.zero_le _
  | y :: K, nd, h => by
    rw [nfr_cons, nfr_cons]
    have nd' := List.nodup_cons.mp nd
    by_cases e : y = x
    · rw [nfr_ext (σ := σ) (τ := τ) (fun z hz => h z (List.mem_cons_of_mem _ hz) (fun w => nd'.1 (by rw [e, ← w]; exact hz)))]
      split <;> split <;> omega
    · rw [h y List.mem_cons_self e]
      have := nfr_one nd'.2 (fun z hz => h z (List.mem_cons_of_mem _ hz))
      omega
/-- no knot is twice in a tree -/
theorem WT.nd {σ : St} : ∀ {l : Nat} {mn mx z lo hi : Int}, WT σ l mn mx z lo hi → (kl σ l z).Nodup
  | 0, _, _, _, _, _, _ => List.nodup_cons.mpr ⟨List.not_mem_nil, List.nodup_nil⟩
  | l + 1, mn, mx, z, lo, hi, h => by
    refine List.nodup_cons.mpr ⟨fun w => ?_, ?_⟩
    · obtain ⟨i, i1, i2⟩ := cat_mem w
      exact h.top i1.1 (by have := h.2.2.1; omega) i2
    · have key : ∀ n : Nat, (n : Int) ≤ gI σ 577 z → (cat (fun k => kl σ l (be σ z k)) n).Nodup := by
        intro n
        induction n with
        | zero => intro _; exact List.nodup_nil
        | succ n ih =>
          intro hn
          show (cat (fun k => kl σ l (be σ z k)) n ++ kl σ l (be σ z (n : Int))).Nodup
          refine List.nodup_append.mpr ⟨ih (by omega), (h.2.2.2 n (by omega) (by omega)).2.2.nd, fun a ha b hb e => ?_⟩
          obtain ⟨i, i1, i2⟩ := cat_mem ha
          rw [← e] at hb
          exact h.dis i1.1 (by omega) (by omega) (by omega) (by omega) i2 hb
      exact key _ (by have := h.2.2.1; omega)
