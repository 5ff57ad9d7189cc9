/-! nodes one behind the other -/
def ndV (tv : Nat → Int) (g : Int → Int) (a n : Int) : Prop := whN tv g a n ∧ (32 ≤ n ∧ n ≤ 320) ∧ (g (a + 16) = 5 → 0 ≤ rI4 g (a + 24))
theorem ndV.ext {tv : Nat → Int} {g h : Int → Int} {a n : Int} (w : ndV tv g a n) (e : ∀ p, a ≤ p → p < a + n → h p = g p) : ndV tv h a n := by
  obtain ⟨w1, w2, w3⟩ := w
  have n24 := w1.1.1
  refine ⟨w1.ext (fun i i0 i1 => (e _ (by omega) (by omega)).symm), w2, fun q => ?_⟩
  rw [e _ (by omega) (by omega)] at q
  rw [rI4_ext (h := g) (fun i i0 i1 => e i (by omega) (by omega))]
  exact w3 q
def pdZ (g : Int → Int) (a : Int) : Prop := a % 128 ≠ 0 ∧ ∀ p, a ≤ p → p < (a + 127) / 128 * 128 → g p = 0
/-- nodes (their lengths; 0 for 0s up to a page's end) from a to b -/
def chn (tv : Nat → Int) (g : Int → Int) : List Int → Int → Int → Prop
  | [], a, b => a = b
  | n :: t, a, b => if n = 0 then pdZ g a ∧ chn tv g t ((a + 127) / 128 * 128) b else ndV tv g a n ∧ chn tv g t (a + n) b
theorem chn_le {tv : Nat → Int} {g : Int → Int} : ∀ {t : List Int} {a b : Int}, chn tv g t a b → a ≤ b
  | [], a, b, h => by have : a = b := h; omega
  | n :: t, a, b, h => by
    have h' : if n = 0 then pdZ g a ∧ chn tv g t ((a + 127) / 128 * 128) b else ndV tv g a n ∧ chn tv g t (a + n) b := h
    by_cases q : n = 0
    · rw [if_pos q] at h'
      have := chn_le h'.2
      omega
    · rw [if_neg q] at h'
      have := chn_le h'.2
      have := h'.1.1.1
      omega
theorem chn_app {tv : Nat → Int} {g : Int → Int} : ∀ {t : List Int} {a b : Int} {u : List Int} {c : Int}, chn tv g t a b → chn tv g u b c → chn tv g (t ++ u) a c
  | [], a, b, u, c, h, k => by have e : a = b := h; rw [e]; exact k
  | n :: t, a, b, u, c, h, k => by
    have h' : if n = 0 then pdZ g a ∧ chn tv g t ((a + 127) / 128 * 128) b else ndV tv g a n ∧ chn tv g t (a + n) b := h
    show if n = 0 then pdZ g a ∧ chn tv g (t ++ u) ((a + 127) / 128 * 128) c else ndV tv g a n ∧ chn tv g (t ++ u) (a + n) c
    by_cases q : n = 0
    · rw [if_pos q] at h' ⊢
      exact ⟨h'.1, chn_app h'.2 k⟩
    · rw [if_neg q] at h' ⊢
      exact ⟨h'.1, chn_app h'.2 k⟩
theorem chn_ext {tv : Nat → Int} {g h : Int → Int} : ∀ {t : List Int} {a b : Int}, chn tv g t a b → (∀ p, a ≤ p → p < b → h p = g p) → chn tv h t a b
  | [], a, b, c, _ => c
  | n :: t, a, b, c, e => by
    have h' : if n = 0 then pdZ g a ∧ chn tv g t ((a + 127) / 128 * 128) b else ndV tv g a n ∧ chn tv g t (a + n) b := c
    show if n = 0 then pdZ h a ∧ chn tv h t ((a + 127) / 128 * 128) b else ndV tv h a n ∧ chn tv h t (a + n) b
    by_cases q : n = 0
    · rw [if_pos q] at h' ⊢
      have l := chn_le h'.2
      exact ⟨⟨h'.1.1, fun p p0 p1 => by rw [e p p0 (by omega)]; exact h'.1.2 p p0 p1⟩, chn_ext h'.2 (fun p p0 p1 => e p (by omega) p1)⟩
    · rw [if_neg q] at h' ⊢
      have l := chn_le h'.2
      have := h'.1.1.1
      exact ⟨h'.1.ext (fun p p0 p1 => e p p0 (by omega)), chn_ext h'.2 (fun p p0 p1 => e p (by omega) p1)⟩
theorem chn_m8 {tv : Nat → Int} {g : Int → Int} : ∀ {t : List Int} {a b : Int}, chn tv g t a b → a % 8 = 0 → b % 8 = 0
  | [], a, b, h, k => by have e : a = b := h; omega
  | n :: t, a, b, h, k => by
    have h' : if n = 0 then pdZ g a ∧ chn tv g t ((a + 127) / 128 * 128) b else ndV tv g a n ∧ chn tv g t (a + n) b := h
    by_cases q : n = 0
    · rw [if_pos q] at h'
      exact chn_m8 h'.2 (by omega)
    · rw [if_neg q] at h'
      have := h'.1.1.1
      exact chn_m8 h'.2 (by omega)
/-- what a number has, up to where no node begins -/
def CN (tv : Nat → Int) (g : Int → Int) (lim a : Int) : Prop := ∃ t b, chn tv g t a b ∧ b ≤ lim ∧ noN tv g b lim
theorem noN.ext {tv : Nat → Int} {g h : Int → Int} {a lim : Int} (w : noN tv g a lim) (e : ∀ p, a ≤ p → p < lim → h p = g p) : noN tv h a lim := by
  unfold noN at *
  by_cases q : lim < a + 8
  · exact Or.inl q
  · have e4 : rI4 h (a + 4) = rI4 g (a + 4) := rI4_ext (fun i i0 i1 => e i (by omega) (by omega))
    rcases w with w | ⟨w1, w2⟩
    · exact absurd w q
    · refine Or.inr ⟨by rw [e4]; exact w1, ?_⟩
      rw [e4]
      by_cases q2 : rI4 g (a + 4) < 24
      · exact Or.inl q2
      by_cases q4 : lim < a + rI4 g (a + 4)
      · exact Or.inr (Or.inr (Or.inl q4))
      rcases w2 with w | w | w | w
      · exact absurd w q2
      · exact Or.inr (Or.inl w)
      · exact absurd w q4
      · exact Or.inr (Or.inr (Or.inr (fun y => w (y.ext (fun i i0 i1 => e _ (by omega) (by omega))))))
theorem CN.ext {tv : Nat → Int} {g h : Int → Int} {lim a : Int} (w : CN tv g lim a) (e : ∀ p, a ≤ p → p < lim → h p = g p) : CN tv h lim a := by
  obtain ⟨t, b, c, d, f⟩ := w
  have := chn_le c
  exact ⟨t, b, chn_ext c (fun p p0 p1 => e p p0 (by omega)), d, f.ext (fun p p0 p1 => e p (by omega) p1)⟩
theorem CN.of {tv : Nat → Int} {g : Int → Int} {t : List Int} {lim a : Int} (h : chn tv g t a lim) : CN tv g lim a := ⟨t, lim, h, Int.le_refl _, Or.inl (by omega)⟩
/-- what is there of it when only whole pages are -/
theorem CN.cut {tv : Nat → Int} {g : Int → Int} {lim : Int} (hl : lim % 128 = 0) : ∀ {t : List Int} {a b : Int}, chn tv g t a b → a ≤ lim → lim ≤ b → CN tv g lim a
  | [], a, b, h, k1, k2 => by
    have e : a = b := h
    exact ⟨[], a, rfl, k1, Or.inl (by omega)⟩
  | n :: t, a, b, h, k1, k2 => by
    have h' : if n = 0 then pdZ g a ∧ chn tv g t ((a + 127) / 128 * 128) b else ndV tv g a n ∧ chn tv g t (a + n) b := h
    by_cases e : a = lim
    · exact ⟨[], a, rfl, k1, Or.inl (by omega)⟩
    by_cases q : n = 0
    · rw [if_pos q] at h'
      obtain ⟨u, c, x, y, z⟩ := CN.cut hl h'.2 (by omega) k2
      refine ⟨0 :: u, c, ?_, y, z⟩
      show if (0 : Int) = 0 then _ else _
      rw [if_pos rfl]; exact ⟨h'.1, x⟩
    · rw [if_neg q] at h'
      by_cases w : a + n ≤ lim
      · obtain ⟨u, c, x, y, z⟩ := CN.cut hl h'.2 w k2
        refine ⟨n :: u, c, ?_, y, z⟩
        show if n = 0 then _ else _
        rw [if_neg q]; exact ⟨h'.1, x⟩
      · have n1 := h'.1.1.2.1
        have n2 := h'.1.1.1
        refine ⟨[], a, rfl, k1, Or.inr ⟨by rw [n1]; exact q, ?_⟩⟩
        rw [n1]; exact Or.inr (Or.inr (Or.inl (by omega)))
