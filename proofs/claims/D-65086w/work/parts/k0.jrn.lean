/-! the journal becomes longer: the flash tells more groups -/
theorem bR.app1 {tv : Nat → Int} {cf : Cf} {dk : Int → Int} {db : Int → Int → Int} {lg lr : Int} {bl1 : List (Int × Int × Int × List (List Int))} : ∀ {bl0 : List (Int × Int × Int × List (List Int))} {k s s' : Int} {S S' : List (Int × Int × Int × (Int → Int)) × Int}, bR tv cf dk db lg lr (bl0 ++ bl1) k s S s' S' → ∃ s1 S1, bR tv cf dk db lg lr bl0 k s S s1 S1 ∧ bR tv cf dk db lg lr bl1 (k + bl0.length) s1 S1 s' S'
  | [], k, s, s', S, S', h => ⟨s, S, ⟨rfl, rfl⟩, by rw [show k + (([] : List (Int × Int × Int × List (List Int))).length : Int) = k by rw [List.length_nil]; omega]; exact h⟩
  | (n, a, b, t) :: bl0, k, s, s', S, S', h => by
    obtain ⟨h1, h2, h3, h4, s1, S1, v, h5, h6, h7⟩ := h
    obtain ⟨s2, S2, w1, w2⟩ := bR.app1 (bl0 := bl0) h7
    refine ⟨s2, S2, ⟨h1, h2, h3, h4, s1, S1, v, h5, h6, w1⟩, ?_⟩
    rw [List.length_cons, show k + ((bl0.length + 1 : Nat) : Int) = k + 1 + bl0.length by omega]
    exact w2
theorem bR.app2 {tv : Nat → Int} {cf : Cf} {dk : Int → Int} {db : Int → Int → Int} {lg lr : Int} {bl1 : List (Int × Int × Int × List (List Int))} {s' : Int} {S' : List (Int × Int × Int × (Int → Int)) × Int} : ∀ {bl0 : List (Int × Int × Int × List (List Int))} {k s s1 : Int} {S S1 : List (Int × Int × Int × (Int → Int)) × Int}, bR tv cf dk db lg lr bl0 k s S s1 S1 → bR tv cf dk db lg lr bl1 (k + bl0.length) s1 S1 s' S' → bR tv cf dk db lg lr (bl0 ++ bl1) k s S s' S'
  | [], k, s, s1, S, S1, h, w => by
    obtain ⟨rfl, rfl⟩ := h
    rw [show k + (([] : List (Int × Int × Int × List (List Int))).length : Int) = k by rw [List.length_nil]; omega] at w
    exact w
  | (n, a, b, t) :: bl0, k, s, s1, S, S1, h, w => by
    obtain ⟨h1, h2, h3, h4, s2, S2, v, h5, h6, h7⟩ := h
    rw [List.length_cons, show k + ((bl0.length + 1 : Nat) : Int) = k + 1 + bl0.length by omega] at w
    exact ⟨h1, h2, h3, h4, s2, S2, v, h5, h6, h7.app2 w⟩
/-- what a log tells stays, when it has no page less -/
theorem bR.hd {tv : Nat → Int} {db db' : Int → Int → Int} {lg lr n a k : Int} (h : whN tv (db lg) (128 * k) 64 ∧ db lg (128 * k + 16) = 8 ∧ lr < srl (db lg) (128 * k) ∧ rI4 (db lg) (128 * k + 24) = n ∧ rI4 (db lg) (128 * k + 28) = a) (k0 : 0 ≤ k) (e : ∀ p, 128 * k ≤ p → p < 128 * k + 64 → db' lg p = db lg p) : whN tv (db' lg) (128 * k) 64 ∧ db' lg (128 * k + 16) = 8 ∧ lr < srl (db' lg) (128 * k) ∧ rI4 (db' lg) (128 * k + 24) = n ∧ rI4 (db' lg) (128 * k + 28) = a := by
  obtain ⟨w1, w2, w3, w4, w5⟩ := h
  have r4 : ∀ j, 0 ≤ j → j + 4 ≤ 64 → rI4 (db' lg) (128 * k + j) = rI4 (db lg) (128 * k + j) := fun j j0 j1 => rI4_ext (fun i i0 i1 => e i (by omega) (by omega))
  exact ⟨w1.ext (fun i i0 i1 => (e _ (by omega) (by omega)).symm), by rw [e _ (by omega) (by omega)]; exact w2, by rw [srl_ext (g := db lg) (n := 64) (by omega) (fun p p0 p1 => e p p0 (by omega))]; exact w3, by rw [r4 24 (by omega) (by omega)]; exact w4, by rw [r4 28 (by omega) (by omega)]; exact w5⟩
theorem FX.jr {tv : Nat → Int} {cf : Cf} {dk dk' : Int → Int} {db db' : Int → Int → Int} {σc : St} {l : Nat} {z c lg lr sv nx tn tp : Int} {bl0 : List (Int × Int × Int × List (List Int))} {n a b b3 s' s3 X X' V jn : Int} {S' S3 : List (Int × Int × Int × (Int → Int)) × Int} {t t3 : List (List Int)} {v3 : List Int} (hc : CfOK cf) (h : FX tv cf dk db σc l z c lg lr sv nx tn tp (bl0 ++ [(n, a, b, t)]) s' S' X V jn) (hon : 1 ≤ dk (5 - lg) → rI4 (db (5 - lg)) 24 ≤ c) (g : DG cf (-1) dk db dk' db') (hlo : ∀ m, 0 ≤ m → m < 4 → dk' m = dk m) (hoth : ∀ m, 0 ≤ m → m ≠ n → lmF dk' m = lmF dk m) (hsm : sM tv (db' n) t3 b s' S' b3 s3 S3) (hb3 : b3 ≤ lmF dk' n) (hgt : gT tv (db' n) (lmF dk' n) v3 b3 s3) (hX : X ≤ X' ∧ s3 ≤ X') : FX tv cf dk' db' σc l z c lg lr sv nx tn tp (bl0 ++ [(n, a, b3, t ++ t3)]) s3 S3 X' V jn := by
  have hR : 0 ≤ cf.2.2 ∧ cf.2.2 ≤ 4 := hc.2.2
  have hBl : 24 ≤ cf.1 ∧ cf.1 ≤ 64 := hc.1
  have tr := tbl_r hc
  obtain ⟨h1, h2, h3⟩ := h
  have hlg : lg = 2 ∨ lg = 3 := h1.1.1
  have am := h1.am hc (Or.inl rfl) g
  have h1' := h1.dg hc (Or.inl rfl) g
  have l1 : 0 ≤ 5 - lg ∧ 5 - lg < 4 ∧ 0 ≤ lg ∧ lg < 4 := by omega
  refine ⟨h1', ?_, Or.inl ?_⟩
  · obtain ⟨f1, f2, f3, f4, ⟨f5, f5', f5''⟩, f6, f7, f8⟩ := h2
    obtain ⟨⟨-, -⟩, -, ⟨k3, k4, -⟩, ⟨k6, k7, k8, -⟩, k10, k11, -⟩ := h1
    have dl := hlo lg l1.2.2.1 l1.2.2.2
    obtain ⟨-, gl, -⟩ := g lg l1.2.2.1 (by omega) (by omega)
    rw [List.length_append] at f1
    have f1' : dk lg = 1 + (bl0.length + 1 : Int) := by rw [f1]; rfl
    obtain ⟨s1, S1, w1, w2⟩ := bR.app1 f2
    have nd : ∀ b', b' ∈ bl0 → b'.1 ≠ n := fun b' hb' e => by
      rw [List.map_append, List.nodup_append] at f3
      exact f3.2.2 b'.1 (List.mem_map.mpr ⟨b', hb', rfl⟩) n (List.mem_singleton.mpr rfl) e
    have rg := bR.rng w1
    have w1' := w1.dg (Or.inl rfl) hc g hlg (by omega) (by omega) (Int.le_refl _) (fun b' hb' => Or.inl (hoth b'.1 (by have := rg b' hb'; omega) (nd b' hb')))
    obtain ⟨y1, y2, ⟨y3, y4, y5⟩, y6, s2, S2, v2, y7, y8, y9, y10⟩ := w2
    obtain ⟨gn1, gn2, -⟩ := g n (by omega) y2.2 (by omega)
    have le := sM_le y7
    rw [y9, y10] at y7
    have lg3 := sM_le hsm
    refine ⟨by rw [dl, f1, List.length_append]; rfl, ?_, by rw [List.map_append] at f3 ⊢; exact f3, fun b' hb' => ?_, ⟨f5, by omega, by omega⟩, fun k k0 k1 => ?_, fun y hy => ?_, ?_, (f8.2.g (fun e he p p0 p1 => ?_)).le hX.1⟩
    · rw [am]
      refine w1'.app2 ⟨bR.hd y1 (by omega) (fun p p0 p1 => gl p (by omega) (by unfold lmF; omega)), y2, ⟨y3, y4, y5.ext (fun i i0 i1 => gn2 i i0 (by omega))⟩, hb3, s3, S3, v3, sM_app (sM_ext (h := db' n) y7 (fun p p0 p1 => gn2 p (by omega) (by omega))) hsm, hgt, rfl, rfl⟩
    · rcases List.mem_append.mp hb' with q | q
      · exact f4 b' (List.mem_append_left _ q)
      · rw [List.mem_singleton.mp q]
        exact f4 (n, a, b, t) (List.mem_append_right _ (List.mem_singleton.mpr rfl))
    · rw [dl] at k1
      rw [srl_ext (g := db lg) (n := 128) (by omega) (fun p p0 p1 => gl p (by omega) (by unfold lmF; omega))]
      exact Int.le_trans (f6 k k0 k1) hX.1
    · have k := k4 y hy
      have r := k.2.2.1
      have sz := k.sz (k3.kcnt y hy)
      rw [srl_ext (g := db (gI σc 585 y)) (n := gI σc 587 y) (by omega) (fun p p0 p1 => (g _ (by omega) r.2 (by omega)).2.1 p (by have := k.2.2.2.1; omega) (by have := k.2.2.2.2.1; omega))]
      exact Int.le_trans (f7 y hy) hX.1
    · rw [srl_ext (g := db tn) (n := tbl cf) (by omega) (fun p p0 p1 => (g tn (by omega) k6.2 (by omega)).2.1 p (by omega) (by omega))]
      exact Int.le_trans f8.1 hX.1
    · have q := k11 e he
      have nn := q.2.1.n
      exact (g _ (by omega) q.1.2 (by omega)).2.1 p (by omega) (by have := q.2.2.2.2.2.2; omega)
  · rw [hlo (5 - lg) l1.1 l1.2.1]
    by_cases w : dk (5 - lg) ≤ 0
    · exact Or.inl w
    · exact Or.inr (by rw [rI4_ext (h := db (5 - lg)) (fun i i0 i1 => (g (5 - lg) l1.1 (by omega) (by omega)).2.1 i (by omega) (by unfold lmF; omega))]; exact hon (by omega))
