/-! places of a number, one behind the other -/
theorem chn_det {tv : Nat → Int} {g : Int → Int} {p q : Int} : ∀ {t u : List Int} {a : Int}, a % 8 = 0 → chn tv g t a p → chn tv g u a q → p < q → (∃ n, ndV tv g p n ∧ p + n ≤ q) ∨ (pdZ g p ∧ (p + 127) / 128 * 128 ≤ q)
  | [], u, a, h8, h1, h2, lt => by
    have e : a = p := h1
    match u, h2 with
    | [], h2 => have : a = q := h2; omega
    | n :: u, h2 =>
      have h' : if n = 0 then pdZ g a ∧ chn tv g u ((a + 127) / 128 * 128) q else ndV tv g a n ∧ chn tv g u (a + n) q := h2
      rw [← e]
      by_cases z : n = 0
      · rw [if_pos z] at h'
        exact Or.inr ⟨h'.1, chn_le h'.2⟩
      · rw [if_neg z] at h'
        exact Or.inl ⟨n, h'.1, chn_le h'.2⟩
  | m :: t, u, a, h8, h1, h2, lt => by
    have le := chn_le h1
    have h1' : if m = 0 then pdZ g a ∧ chn tv g t ((a + 127) / 128 * 128) p else ndV tv g a m ∧ chn tv g t (a + m) p := h1
    match u, h2 with
    | [], h2 => have : a = q := h2; omega
    | n :: u, h2 =>
      have h2' : if n = 0 then pdZ g a ∧ chn tv g u ((a + 127) / 128 * 128) q else ndV tv g a n ∧ chn tv g u (a + n) q := h2
      by_cases z : n = 0
      · rw [if_pos z] at h2'
        by_cases w : m = 0
        · rw [if_pos w] at h1'
          exact chn_det (by omega) h1'.2 h2'.2 lt
        · rw [if_neg w] at h1'
          have a1 := h2'.1.z h8
          have a2 := h1'.1.1.2.1
          omega
      · rw [if_neg z] at h2'
        have a2 := h2'.1.1.2.1
        by_cases w : m = 0
        · rw [if_pos w] at h1'
          have a1 := h1'.1.z h8
          omega
        · rw [if_neg w] at h1'
          have a1 := h1'.1.1.2.1
          have e : m = n := by omega
          rw [e] at h1'
          exact chn_det (by have := h2'.1.1.1.2; omega) h1'.2 h2'.2 lt
theorem onC.m8 {tv : Nat → Int} {g : Int → Int} {p : Int} (h : onC tv g p) : p % 8 = 0 := by
  obtain ⟨t, h⟩ := h
  exact chn_m8 h (by decide)
theorem onC.lt {tv : Nat → Int} {g : Int → Int} {p q : Int} (h : onC tv g p) (k : onC tv g q) (lt : p < q) : (∃ n, ndV tv g p n ∧ p + n ≤ q) ∨ (pdZ g p ∧ (p + 127) / 128 * 128 ≤ q) := by
  obtain ⟨t, h⟩ := h
  obtain ⟨u, k⟩ := k
  exact chn_det (by decide) h k lt
/-- nothing lies behind the end -/
theorem noN.no {tv : Nat → Int} {g : Int → Int} {p q lim : Int} (w : noN tv g p lim) (h : onC tv g p) (k : onC tv g q) (lt : p < q) (hl : q ≤ lim) : False := by
  rcases h.lt k lt with ⟨n, h1, h2⟩ | ⟨h1, h2⟩
  · have e := h1.1.2.1
    have nn := h1.2.1
    rcases w with w | ⟨w1, w2⟩
    · omega
    · rw [e] at w2
      rcases w2 with w | w | w | w
      · omega
      · omega
      · omega
      · exact w h1.1
  · have e := h1.z h.m8
    have m8 := h.m8
    have p1 := h1.1
    rcases w with w | w
    · omega
    · exact w.1 e
/-- what lies at a place of a closed number -/
theorem CN.at {tv : Nat → Int} {g : Int → Int} {p lim : Int} (w : CN tv g lim 0) (h : onC tv g p) (hl : p ≤ lim) (nn : ¬ noN tv g p lim) : (∃ n, ndV tv g p n ∧ p + n ≤ lim) ∨ (pdZ g p ∧ (p + 127) / 128 * 128 ≤ lim) := by
  obtain ⟨t, b, c, d, e⟩ := w
  have ob : onC tv g b := ⟨t, c⟩
  rcases Int.lt_trichotomy p b with q | q | q
  · rcases h.lt ob q with ⟨n, h1, h2⟩ | ⟨h1, h2⟩
    · exact Or.inl ⟨n, h1, by omega⟩
    · exact Or.inr ⟨h1, by omega⟩
  · rw [q] at nn; exact absurd e nn
  · exact absurd (e.no ob h q hl) id
/-- number v is being emptied, from place p on -/
def VC (tv : Nat → Int) (cf : Cf) (σ : St) (dk : Int → Int) (db : Int → Int → Int) (L : List (Int × Int × Int × Int × Int × Int)) (v p : Int) : Prop := ((4 + cf.2.2 ≤ v ∧ v < cf.1 - 6) ∧ gA σ 323 0 v = 1) ∧ ((0 ≤ p ∧ p ≤ lmF dk v) ∧ onC tv (db v) p) ∧ ∀ e, e ∈ L → e.2.2.1 = v → p ≤ e.2.2.2.1
theorem VC.beg {tv : Nat → Int} {cf : Cf} {σ τ : St} {dk : Int → Int} {db : Int → Int → Int} {L : List (Int × Int × Int × Int × Int × Int)} {v : Int} (h : SA tv cf σ dk db L) (hv : 4 + cf.2.2 ≤ v ∧ v < cf.1 - 6) (hu : gA τ 323 0 v = 1) : VC tv cf τ dk db L v 0 := by
  refine ⟨⟨hv, hu⟩, ⟨⟨by omega, by unfold lmF; omega⟩, ⟨[], rfl⟩⟩, fun e he _ => ?_⟩
  exact (h.2.1.2.2 e he).2.2.2.2.2.1.1
theorem SA.nh {tv : Nat → Int} {cf : Cf} {σ : St} {dk : Int → Int} {db : Int → Int → Int} {L : List (Int × Int × Int × Int × Int × Int)} {v : Int} (h : SA tv cf σ dk db L) (hv : 0 ≤ v) (hu : gA σ 323 0 v = 1) : ¬ hld σ 0 v := by
  rintro ⟨w, hw, e⟩
  have := (h.2.2.2.1 w hw (by omega)).1
  rw [e, hu] at this
  omega
theorem SA.cn {tv : Nat → Int} {cf : Cf} {σ : St} {dk : Int → Int} {db : Int → Int → Int} {L : List (Int × Int × Int × Int × Int × Int)} {v : Int} (hc : CfOK cf) (h : SA tv cf σ dk db L) (hv : 4 + cf.2.2 ≤ v ∧ v < cf.1 - 6) (hu : gA σ 323 0 v = 1) : CN tv (db v) (lmF dk v) 0 ∧ eE σ 0 dk v = lmF dk v := by
  have hR : 0 ≤ cf.2.2 ∧ cf.2.2 ≤ 4 := hc.2.2
  have nh := h.nh (v := v) (by omega) hu
  refine ⟨((h.2.2.1 v hv.1 hv.2).2.2.2.2.2.2 (by omega)).2 nh, ?_⟩
  unfold eE
  rw [if_neg (fun q => nh ⟨0, Or.inl rfl, q.symm⟩), if_neg (fun q => nh ⟨0 + 2, Or.inr (Or.inl rfl), q.symm⟩), if_neg (fun q => nh ⟨0 + 4, Or.inr (Or.inr rfl), q.symm⟩)]
  rfl
