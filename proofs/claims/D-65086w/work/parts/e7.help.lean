/-! knots on the flash, from one state to another -/
theorem NC.chd {σ : St} : ∀ {l : Nat} {mn mx z lo hi : Int}, NC σ l z → WT σ l mn mx z lo hi → ∀ {y k : Int}, y ∈ kl σ l z → gI σ 584 y = 0 → 0 ≤ k → k < gI σ 577 y → be σ y k < 0 ∨ (be σ y k ∈ kl σ l z ∧ gI σ 584 (be σ y k) = 0)
  | 0, mn, mx, z, lo, hi, _, h, y, k, hy, _, k0, k1 => by
    rw [List.mem_singleton.mp hy] at k1 ⊢
    left
    have := (h.2.2.2 k k0 k1).2
    omega
  | l + 1, mn, mx, z, lo, hi, n, h, y, k, hy, hf, k0, k1 => by
    rcases List.mem_cons.mp hy with e | e
    · rw [e] at k1 hf ⊢
      exact Or.inr ⟨kl_below k0 k1 (kl_self _ _ _), (n k k0 k1).1 hf⟩
    · obtain ⟨i, i1, i2⟩ := cat_mem e
      have ic : i < gI σ 577 z := by have := h.2.2.1; omega
      rcases (n i i1.1 ic).2.chd (h.2.2.2 i i1.1 ic).2.2 i2 hf k0 k1 with w | w
      · exact Or.inl w
      · exact Or.inr ⟨kl_below i1.1 ic w.1, w.2⟩
theorem IX.krt {σ : St} {o : Int} {L : List (Int × Int × Int × Int × Int × Int)} (h : IX σ o L) : ∃ (l : Nat) (z : Int), krt σ o = kl σ l z ∧ WT σ l (if l = 0 then 0 else 2) 8 z (-BIG) BIG ∧ NC σ l z ∧ gI σ 387 o = z ∧ ls σ l z = L := by
  obtain ⟨l, z, i1, i2, i3, i4, -⟩ := h
  exact ⟨l, z, krt_eq i1 i2.cnt.2.1, i2, i3, i1, i4⟩
theorem knE.ck {tv : Nat → Int} {cf : Cf} {db : Int → Int → Int} {lim : Int → Int} {σ τ : St} {o : Int} {L : List (Int × Int × Int × Int × Int × Int)} (hI : IX τ o L) (hC : CK σ τ o) (h : ∀ x, x ∈ krt σ o → gI σ 584 x = 0 → knE tv cf db lim σ x) : ∀ x, x ∈ krt τ o → gI τ 584 x = 0 → knE tv cf db lim τ x := by
  intro x hx hf
  obtain ⟨l, z, k1, k2, k3, -⟩ := hI.krt
  obtain ⟨c1, c2, c3⟩ := hC.2.1 x hx hf
  have hfs : gI σ 584 x = 0 := by rw [← c3.1]; exact hf
  refine (h x c1 hfs).fr ⟨c2, c3⟩ (fun k k0 k4 => ?_)
  rw [← c2.2.1] at k4
  rw [k1] at hx
  rw [← c2.b k]
  rcases k3.chd k2 hx hf k0 k4 with w | w
  · exact Or.inl w
  · refine Or.inr (hC.2.1 _ ?_ w.2).2.2
    rw [k1]; exact w.1
theorem knE.sz {tv : Nat → Int} {cf : Cf} {db : Int → Int → Int} {lim : Int → Int} {σ : St} {x : Int} (h : knE tv cf db lim σ x) (hc : 0 ≤ gI σ 577 x ∧ gI σ 577 x ≤ 8) : 32 ≤ gI σ 587 x ∧ gI σ 587 x ≤ 256 := by
  rw [h.2.1]; unfold szK; omega
theorem kS_r {σ : St} {m : Int} : ∀ {K : List Int}, (∀ x, x ∈ K → gI σ 584 x = 0 → 0 ≤ gI σ 587 x ∧ gI σ 587 x ≤ 256) → 0 ≤ kS σ K m ∧ kS σ K m ≤ 256 * K.length
  | [], _ => ⟨Int.le_refl _, Int.le_refl _⟩
  | x :: K, h => by
    have a := kS_r (m := m) (fun y hy => h y (List.mem_cons_of_mem _ hy))
    have b := h x List.mem_cons_self
    rw [kS_cons, List.length_cons]
    unfold fz
    split
    · rename_i q
      have := b q.1
      omega
    · omega
theorem kS_ex {σ : St} {m : Int} : ∀ {K : List Int}, kS σ K m ≠ 0 → ∃ y, y ∈ K ∧ gI σ 584 y = 0 ∧ gI σ 585 y = m
  | [], h => absurd rfl h
  | x :: K, h => by
    rw [kS_cons] at h
    by_cases q : gI σ 584 x = 0 ∧ gI σ 585 x = m
    · exact ⟨x, List.mem_cons_self, q.1, q.2⟩
    · have z : fz σ x m = 0 := by unfold fz; rw [if_neg q]
      rw [z, Int.zero_add] at h
      obtain ⟨y, y1, y2⟩ := kS_ex h
      exact ⟨y, List.mem_cons_of_mem _ y1, y2⟩
theorem kS_pos {σ : St} : ∀ {K : List Int}, (∀ x, x ∈ K → gI σ 584 x = 0 → 32 ≤ gI σ 587 x) → ∀ y, y ∈ K → gI σ 584 y = 0 → 32 ≤ kS σ K (gI σ 585 y)
  | [], _, y, hy, _ => absurd hy List.not_mem_nil
  | x :: K, h, y, hy, hf => by
    rw [kS_cons]
    have nn : ∀ (K : List Int), (∀ x, x ∈ K → gI σ 584 x = 0 → 32 ≤ gI σ 587 x) → ∀ m, 0 ≤ kS σ K m := by
      intro K
      induction K with
      | nil => intro _ m; exact Int.le_refl _
      | cons x K ih =>
        intro h m
        have a := ih (fun y hy => h y (List.mem_cons_of_mem _ hy)) m
        have b := h x List.mem_cons_self
        rw [kS_cons]
        unfold fz
        split
        · rename_i q
          have := b q.1
          omega
        · omega
    have f0 : 0 ≤ fz σ x (gI σ 585 y) := by
      unfold fz
      split
      · rename_i q
        have := h x List.mem_cons_self q.1
        omega
      · omega
    rcases List.mem_cons.mp hy with e | e
    · have n0 := nn K (fun y hy => h y (List.mem_cons_of_mem _ hy)) (gI σ 585 y)
      have := h y hy hf
      rw [← e]
      have fe : fz σ y (gI σ 585 y) = gI σ 587 y := by unfold fz; rw [if_pos ⟨hf, rfl⟩]
      omega
    · have := kS_pos (fun y hy => h y (List.mem_cons_of_mem _ hy)) y e hf
      omega
theorem eV.sz {tv : Nat → Int} {cf : Cf} {db : Int → Int → Int} {lim : Int → Int} {L : List (Int × Int × Int × Int × Int × Int)} (hc : CfOK cf) (h : eV tv cf db lim L) : szOK cf L := by
  have hR : 0 ≤ cf.2.2 ∧ cf.2.2 ≤ 4 := hc.2.2
  intro e he
  have q := h e he
  have n := q.2.1.n
  exact ⟨⟨by omega, q.1.2⟩, by omega, by omega⟩
theorem lS_pos {cf : Cf} {L : List (Int × Int × Int × Int × Int × Int)} (h : szOK cf L) {e : Int × Int × Int × Int × Int × Int} (he : e ∈ L) (hs : 0 < e.2.2.2.2.1) : 0 < lS L e.2.2.1 := by
  induction L with
  | nil => exact absurd he List.not_mem_nil
  | cons x L ih =>
    have a := lS_r (fun y hy => h y (List.mem_cons_of_mem _ hy)) e.2.2.1
    have b := (h x List.mem_cons_self).2
    rw [lS_cons]
    rcases List.mem_cons.mp he with w | w
    · rw [← w, if_pos rfl]; omega
    · have := ih (fun y hy => h y (List.mem_cons_of_mem _ hy)) w
      split <;> omega
