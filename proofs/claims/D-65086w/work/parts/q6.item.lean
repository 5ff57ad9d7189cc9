/-! items as they are made -/
def okI (x : Int × Int × Int × (Int → Int)) : Prop := okN x ∧ okE x ∧ okA x ∧ okP x
theorem it_e {P : Int → Int} {d n x f : Int} (h : enF P d n x f) (hx : nmV x) (hn : 1 ≤ n) (hf : 0 ≤ f ∧ f < 1024) : okI (4 * d + 2, hs x + f, 48, P) ∧ erow (4 * d + 2, hs x + f, 48, P) = (d, x, n) := by
  obtain ⟨a, b, c, e⟩ := h
  refine ⟨⟨fun q => ?_, fun _ => ?_, fun q => ?_, fun q => ?_⟩, ?_⟩
  · have q : (4 * d + 2) % 4 = 0 := q; omega
  · refine ⟨rfl, ?_, ?_, ?_, ?_, ?_⟩
    · show rI4 P 24 = (4 * d + 2) / 4; omega
    · show nmV (rL8 P 32); rw [c]; exact hx
    · show 1 ≤ rI4 P 28; omega
    · show hs x + f = hs (rL8 P 32) + rI4 P 40; rw [c, e]
    · show 0 ≤ rI4 P 40 ∧ rI4 P 40 < 1024; omega
  · have q : (4 * d + 2) % 4 = 3 := q; omega
  · have q : (4 * d + 2) % 4 = 1 := q; omega
  · show ((4 * d + 2) / 4, rL8 P 32, rI4 P 28) = _
    rw [b, c, show (4 * d + 2) / 4 = d by omega]
theorem it_a {P : Int → Int} {d x v : Int} (h : atF P d x v) (hx : nmV x) : okI (4 * d + 3, rev x, 48, P) ∧ arow (4 * d + 3, rev x, 48, P) = (d, x, v) := by
  obtain ⟨a, b, c, e⟩ := h
  refine ⟨⟨fun q => ?_, fun q => ?_, fun _ => ?_, fun q => ?_⟩, ?_⟩
  · have q : (4 * d + 3) % 4 = 0 := q; omega
  · have q : (4 * d + 3) % 4 = 2 := q; omega
  · refine ⟨rfl, ?_, b, ?_, ?_⟩
    · show rI4 P 24 = (4 * d + 3) / 4; omega
    · show nmV (rL8 P 32); rw [c]; exact hx
    · show rev x = rev (rL8 P 32); rw [c]
  · have q : (4 * d + 3) % 4 = 1 := q; omega
  · show ((4 * d + 3) / 4, rL8 P 32, rL8 P 40) = _
    rw [c, e, show (4 * d + 3) / 4 = d by omega]
theorem it_n {P : Int → Int} {a k l s en at' : Int} (h : inF P a k l s en at') (hk : 1 ≤ k ∧ k ≤ 3) (hl : 0 ≤ l) (hs : 0 ≤ s ∧ s ≤ 16384) (he : 0 ≤ en) (ha : 0 ≤ at') : okI (4 * a, 0, 48, P) ∧ nrow (4 * a, 0, 48, P) = (a, k, s) ∧ ∀ E A : List (Int × Int × Int), (k = 1 → en = cn1 a E) → (k ≠ 1 → l = cn3 a E) → at' = cn1 a A → CT E A (4 * a, 0, 48, P) := by
  obtain ⟨b, c, d, e, f, g⟩ := h
  have q4 : 4 * a / 4 = a := by omega
  refine ⟨⟨fun _ => ?_, fun q => ?_, fun q => ?_, fun q => ?_⟩, ?_, fun E A h1 h2 h3 => ?_⟩
  · refine ⟨rfl, rfl, ?_, ?_, ?_, ?_, ?_, ?_⟩
    · show rI4 P 24 = 4 * a / 4; omega
    · show 1 ≤ rI4 P 28 ∧ rI4 P 28 ≤ 3; omega
    · show 0 ≤ rI4 P 32; omega
    · show 0 ≤ rI4 P 36 ∧ rI4 P 36 ≤ 16384; omega
    · show 0 ≤ rI4 P 40; omega
    · show 0 ≤ rI4 P 44; omega
  · have q : (4 * a) % 4 = 2 := q; omega
  · have q : (4 * a) % 4 = 3 := q; omega
  · have q : (4 * a) % 4 = 1 := q; omega
  · show (4 * a / 4, rI4 P 28, rI4 P 36) = _
    rw [q4, c, e]
  · unfold CT
    show (rI4 P 28 = 1 → rI4 P 40 = cn1 (4 * a / 4) E) ∧ (rI4 P 28 ≠ 1 → rI4 P 32 = cn3 (4 * a / 4) E) ∧ rI4 P 44 = cn1 (4 * a / 4) A
    rw [q4, c, d, f, g]
    exact ⟨h1, h2, h3⟩
theorem it_p {P b : Int → Int} {a k n : Int} (h : piF P a k n b) (hk : 0 ≤ k ∧ k < 256) (hn : 1 ≤ n ∧ n ≤ 64) (hb : ∀ i, ¬ (0 ≤ i ∧ i < n) → b i = 0) : okI (4 * a + 1, k, 32 + (n + 7) / 8 * 8, P) ∧ prow (4 * a + 1, k, 32 + (n + 7) / 8 * 8, P) = (a, k, n, b) := by
  obtain ⟨c, d, e, f⟩ := h
  have pl : plen (4 * a + 1, k, 32 + (n + 7) / 8 * 8, P) = n := by
    show rI4 P 28 / 65536 = n; omega
  refine ⟨⟨fun q => ?_, fun q => ?_, fun q => ?_, fun _ => ?_⟩, ?_⟩
  · have q : (4 * a + 1) % 4 = 0 := q; omega
  · have q : (4 * a + 1) % 4 = 2 := q; omega
  · have q : (4 * a + 1) % 4 = 3 := q; omega
  · rw [pl]
    refine ⟨?_, ?_, hk, hn, rfl, fun i hi => f i hi⟩
    · show rI4 P 24 = (4 * a + 1) / 4; omega
    · show rI4 P 28 = k + 65536 * n; omega
  · unfold prow
    rw [pl]
    show ((4 * a + 1) / 4, k, n, _) = (a, k, n, b)
    rw [show (4 * a + 1) / 4 = a by omega]
    congr 3
    funext i
    by_cases q : 0 ≤ i ∧ i < n
    · rw [if_pos (by omega)]
      exact e i q.1 q.2
    · rw [hb i q]
      by_cases q2 : 0 ≤ i ∧ i < 64
      · rw [if_pos q2]; exact f i (by omega)
      · rw [if_neg q2]
theorem IOK.put {M : List (Int × Int × Int × (Int → Int))} {nx : Int} {x : Int × Int × Int × (Int → Int)} (h : IOK M nx) (hx : okI x) (h1 : 1 ≤ x.1 / 4 ∧ x.1 / 4 < nx) : IOK (mput x M) nx := fun z hz => by
  rcases mput_mem.mp hz with q | q
  · rw [q]; exact ⟨hx.1, hx.2.1, hx.2.2.1, hx.2.2.2, h1⟩
  · exact h z q.1
theorem IOK.up {M : List (Int × Int × Int × (Int → Int))} {nx nx' : Int} (h : IOK M nx) (q : nx ≤ nx') : IOK M nx' := fun z hz => by
  obtain ⟨a, b, c, d, e, f⟩ := h z hz
  exact ⟨a, b, c, d, e, by omega⟩
theorem IOK.fl {M : List (Int × Int × Int × (Int → Int))} {nx : Int} {p : Int × Int × Int × (Int → Int) → Bool} (h : IOK M nx) : IOK (M.filter p) nx := fun z hz => h z (List.mem_filter.mp hz).1
/-- a thing's item is its only one -/
theorem IOK.ne {M : List (Int × Int × Int × (Int → Int))} {nx a : Int} {z : Int × Int × Int × (Int → Int)} (h : IOK M nx) (hz : z ∈ M) (z4 : z.1 % 4 = 0) (hk : ak z ≠ kap (4 * a) 0) : z.1 / 4 ≠ a := fun q => by
  have o := ((h z hz).1 z4).1
  refine hk ?_
  show kap z.1 z.2.1 = _
  rw [o, show z.1 = 4 * a by omega]
theorem CT.ext {E A E' A' : List (Int × Int × Int)} {x : Int × Int × Int × (Int → Int)} (h : CT E A x) (a : cn1 (x.1 / 4) E' = cn1 (x.1 / 4) E) (b : cn3 (x.1 / 4) E' = cn3 (x.1 / 4) E) (c : cn1 (x.1 / 4) A' = cn1 (x.1 / 4) A) : CT E' A' x := by
  unfold CT at h ⊢; rw [a, b, c]; exact h
theorem cn1_o {a : Int} {r : Int × Int × Int} {R : List (Int × Int × Int)} (h : r.1 ≠ a) : cn1 a (r :: R) = cn1 a R := by rw [cn1_cons, if_neg h]; rfl
theorem cn3_o {a : Int} {r : Int × Int × Int} {R : List (Int × Int × Int)} (h : r.2.2 ≠ a) : cn3 a (r :: R) = cn3 a R := by rw [cn3_cons, if_neg h]; rfl
theorem cn1_i {a : Int} {r : Int × Int × Int} {R : List (Int × Int × Int)} (h : r.1 = a) : cn1 a (r :: R) = cn1 a R + 1 := by rw [cn1_cons, if_pos h]
theorem cn3_i {a : Int} {r : Int × Int × Int} {R : List (Int × Int × Int)} (h : r.2.2 = a) : cn3 a (r :: R) = cn3 a R + 1 := by rw [cn3_cons, if_pos h]
