/-! the flash tells a new bud; groups elsewhere -/
theorem apS_sh {tv : Nat → Int} {g h : Int → Int} {a b n : Int} {S : List (Int × Int × Int × (Int → Int)) × Int} (w : jnV tv g a n) (e : ∀ k, 0 ≤ k → k < n → g (a + k) = h (b + k)) : apS g a n S = apS h b n S := by
  have nn := w.n
  unfold apS
  rw [apM_sh (b := b) (h := h) (apM_n w) e, e 16 (by omega) (by omega), rI4_sh (g := g) (h := h) (a := a + 24) (b := b + 24) (fun i i0 i1 => by rw [show a + 24 + i = a + (24 + i) by omega, show b + 24 + i = b + (24 + i) by omega]; exact e _ (by omega) (by omega))]
theorem gN_sh {tv : Nat → Int} {g h : Int → Int} {d : Int} : ∀ {u : List Int} {a s : Int} {S : List (Int × Int × Int × (Int → Int)) × Int} {b s' : Int} {S' : List (Int × Int × Int × (Int → Int)) × Int}, gN tv g u a s S b s' S' → (∀ p, a ≤ p → p < b → h (p + d) = g p) → gN tv h u (a + d) s S (b + d) s' S'
  | [], _, _, _, _, _, _, w, _ => absurd w (fun q => q)
  | [n], a, s, S, b, s', S', ⟨h1, h2, h3, h4, h5, h6, h7⟩, e => by
    have nn := h1.n
    have e' : ∀ k, 0 ≤ k → k < n → g (a + k) = h (a + d + k) := fun k k0 k1 => by
      rw [show a + d + k = a + k + d by omega]; exact (e _ (by omega) (by omega)).symm
    have es : srl h (a + d) = srl g a := (rL8_sh (fun i i0 i1 => by rw [show a + 8 + i = a + (8 + i) by omega, show a + d + 8 + i = a + d + (8 + i) by omega]; exact e' _ (by omega) (by omega))).symm
    exact ⟨h1.sh e', h2, by rw [es]; exact h3, by rw [← e' 17 (by omega) (by omega)]; exact h4, by omega, by rw [es]; exact h6, by rw [← apS_sh h1 e']; exact h7⟩
  | n :: m :: t, a, s, S, b, s', S', ⟨h1, h2, h3, h4, h5⟩, e => by
    have nn := h1.n
    have le := gN_le h5
    have e' : ∀ k, 0 ≤ k → k < n → g (a + k) = h (a + d + k) := fun k k0 k1 => by
      rw [show a + d + k = a + k + d by omega]; exact (e _ (by omega) (by omega)).symm
    have es : srl h (a + d) = srl g a := (rL8_sh (fun i i0 i1 => by rw [show a + 8 + i = a + (8 + i) by omega, show a + d + 8 + i = a + d + (8 + i) by omega]; exact e' _ (by omega) (by omega))).symm
    refine ⟨h1.sh e', h2, by rw [es]; exact h3, by rw [← e' 17 (by omega) (by omega)]; exact h4, ?_⟩
    rw [es, ← apS_sh h1 e', show a + d + n = a + n + d by omega]
    exact gN_sh h5 (fun p p0 p1 => e p (by omega) p1)
theorem gN_40 {tv : Nat → Int} {g : Int → Int} : ∀ {u : List Int} {a s : Int} {S : List (Int × Int × Int × (Int → Int)) × Int} {b s' : Int} {S' : List (Int × Int × Int × (Int → Int)) × Int}, gN tv g u a s S b s' S' → a + 40 ≤ b
  | [], _, _, _, _, _, _, w => absurd w (fun q => q)
  | [n], a, s, S, b, s', S', ⟨h1, h2, h3, h4, h5, h6, h7⟩ => by have := h1.n; omega
  | n :: m :: t, a, s, S, b, s', S', ⟨h1, h2, h3, h4, h5⟩ => by
    have := h1.n
    have := gN_le h5
    omega
theorem sW.m40 {tv : Nat → Int} {g : Int → Int} {Y : Int} : ∀ {t : List (List Int)} {W : List (Int × (List (Int × Int × Int × (Int → Int)) × Int))} {a s : Int} {S : List (Int × Int × Int × (Int → Int)) × Int} {b s' : Int} {S' : List (Int × Int × Int × (Int → Int)) × Int}, sW tv g Y t W a s S b s' S' → a + 40 * W.length ≤ b
  | [], [], _, _, _, _, _, _, h => by
    have := h.1
    show _ + 40 * ((0 : Nat) : Int) ≤ _
    omega
  | u :: t, x :: W, a, s, S, b, s', S', h => by
    obtain ⟨s1, h1, hy, h2⟩ := h
    have := gN_40 h1
    have := h2.m40
    rw [List.length_cons]
    omega
  | [], _ :: _, _, _, _, _, _, _, h => absurd h (fun q => q)
  | _ :: _, [], _, _, _, _, _, _, h => absurd h (fun q => q)
/-- no more than four groups wait -/
theorem sW.few {tv : Nat → Int} {g : Int → Int} {Y lim : Int} {t : List (List Int)} {W : List (Int × (List (Int × Int × Int × (Int → Int)) × Int))} {a s : Int} {S : List (Int × Int × Int × (Int → Int)) × Int} {b s' : Int} {S' : List (Int × Int × Int × (Int → Int)) × Int} (h : sW tv g Y t W a s S b s' S') (hl : ∀ x, x ∈ W → lim < x.1) (hb : b < lim + 128) : W.length ≤ 4 := by
  match t, W, h with
  | [], [], _ => exact Nat.zero_le _
  | u :: t, x :: W, ⟨s1, h1, hy, h2⟩ =>
    have := h2.m40
    have := hl x List.mem_cons_self
    rw [List.length_cons]
    omega
theorem bR.lg {tv : Nat → Int} {cf : Cf} {dk dk' : Int → Int} {db db' : Int → Int → Int} {lg lr K : Int} (h0 : 0 ≤ cf.2.2) (hl : ∀ p, 0 ≤ p → p < 128 * K → db' lg p = db lg p) (hn : ∀ n, 4 + cf.2.2 ≤ n → n < cf.1 - 6 → dk' n = dk n ∧ ∀ p, db' n p = db n p) : ∀ {bl : List (Int × Int × Int × List (List Int))} {k s s' : Int} {S S' : List (Int × Int × Int × (Int → Int)) × Int}, bR tv cf dk db lg lr bl k s S s' S' → 0 ≤ k → k + bl.length ≤ K → bR tv cf dk' db' lg lr bl k s S s' S'
  | [], _, _, _, _, _, h, _, _ => h
  | (n, a, b, t) :: bl, k, s, s', S, S', h, k0, k1 => by
    obtain ⟨h1, h2, ⟨h3, h4, h5⟩, h6, s1, S1, v, h7, h8, h9⟩ := h
    rw [List.length_cons] at k1
    obtain ⟨n1, n2⟩ := hn n h2.1 h2.2
    have lm : lmF dk' n = lmF dk n := by unfold lmF; rw [n1]
    refine ⟨bR.hd h1 k0 (fun p p0 p1 => hl p (by omega) (by omega)), h2, ⟨h3, h4, h5.ext (fun i _ _ => n2 i)⟩, by rw [lm]; exact h6, s1, S1, v, sM_ext h7 (fun p _ _ => n2 p), by rw [lm]; exact h8.ext (fun p _ _ => n2 p), bR.lg h0 hl hn h9 (by omega) (by omega)⟩
/-- a page more of the log: a new bud k from its beginning on -/
theorem FX.bud {tv : Nat → Int} {cf : Cf} {dk dk' : Int → Int} {db db' : Int → Int → Int} {σc : St} {l : Nat} {z c lg lr sv nx tn tp : Int} {bl : List (Int × Int × Int × List (List Int))} {s' X X' V jn k sb : Int} {S' : List (Int × Int × Int × (Int → Int)) × Int} (hc : CfOK cf) (h : FX tv cf dk db σc l z c lg lr sv nx tn tp bl s' S' X V jn) (hon : 1 ≤ dk (5 - lg) → rI4 (db (5 - lg)) 24 ≤ c) (hd : ∀ n, n ≠ lg → dk' n = dk n ∧ ∀ p, db' n p = db n p) (hl : dk' lg = dk lg + 1) (hlb : ∀ p, p < 128 * dk lg → db' lg p = db lg p) (hp : shP tv (db' lg) (128 * dk lg) 8 sb k 0) (hk : 4 + cf.2.2 ≤ k ∧ k < cf.1 - 6) (hkd : dk k = -1) (hkb : ∀ b, b ∈ bl → b.1 ≠ k) (hX : X < sb ∧ sb ≤ X') : FX tv cf dk' db' σc l z c lg lr sv nx tn tp (bl ++ [(k, 0, 0, [])]) s' S' X' V jn := by
  have hR : 0 ≤ cf.2.2 ∧ cf.2.2 ≤ 4 := hc.2.2
  have hBl : 24 ≤ cf.1 ∧ cf.1 ≤ 64 := hc.1
  have tr := tbl_r hc
  have lrX := h.lr
  obtain ⟨h1, h2, h3⟩ := h
  obtain ⟨⟨c1, c1'⟩, c2, ⟨c3, c4, c5⟩, ⟨c6, c7, c8, c9⟩, c10, c11, c12, c13, c14⟩ := h1
  obtain ⟨f1, f2, f3, f4, ⟨f5, f5', f5''⟩, f6, f7, f8⟩ := h2
  have d1 : 1 ≤ dk lg := c10.1
  have nn : ∀ n, 4 + cf.2.2 ≤ n → dk' n = dk n ∧ ∀ p, db' n p = db n p := fun n n0 => hd n (by omega)
  have lmn : ∀ n, 4 + cf.2.2 ≤ n → lmF dk' n = lmF dk n := fun n n0 => by unfold lmF; rw [(nn n n0).1]
  have am : AM db' (ls σc l z) = AM db (ls σc l z) := AM.grow c11 (fun e he p _ _ => (nn _ (c11 e he).1.1).2 p)
  have lk : lmF dk k = 0 := by unfold lmF; rw [hkd]; rfl
  have kx : ¬ isx σc l z tn k := by
    rintro (e | ⟨y, y1, y2⟩)
    · rw [e] at lk; omega
    · have q := c4 y y1
      have sz := q.sz (c3.kcnt y y1)
      have := q.2.2.2.1
      have := q.2.2.2.2.1
      rw [y2] at this
      omega
  refine ⟨⟨⟨c1, c1'⟩, ⟨c2.1, fun m hm => ?_⟩, ⟨c3, fun y hy => ?_, c5⟩, ⟨c6, c7, by rw [lmn tn c6.1]; exact c8, fun m m0 m1 => ?_⟩, ?_, c11.grow (fun e he => ?_) (fun e he p _ _ => (nn _ (c11 e he).1.1).2 p), c12, fun m m0 m1 => ?_, c14⟩, ⟨?_, ?_, ?_, fun b hb => ?_, ⟨f5, by omega, by omega⟩, fun j j0 j1 => ?_, fun y hy => ?_, ?_, (f8.2.g (fun e he p _ _ => (nn _ (c11 e he).1.1).2 p)).le (by omega)⟩, Or.inl ?_⟩
  · obtain ⟨a1, a2⟩ := hd m (by omega)
    obtain ⟨b1, b2, b3⟩ := c2.2 m hm
    rw [a1]
    refine ⟨b1, b2.sh (fun i _ _ => (a2 _).symm), fun j j0 j1 => ?_⟩
    rw [srl_ext (g := db m) (n := 16) (by omega) (fun p _ _ => a2 p)]
    exact b3 j j0 j1
  · have q := c4 y hy
    have r := q.2.2.1
    exact q.dg (c3.kcnt y hy).1 (by rw [lmn _ r.1]; exact Int.le_refl _) (fun p _ _ => (nn _ r.1).2 p)
  · rw [rI4_ext (h := db tn) (fun i _ _ => (nn tn c6.1).2 i)]
    exact c9 m m0 m1
  · have q : lgP tv dk db lg lr c (AM db (ls σc l z)) := c10
    rw [am]
    exact q.ext2 (by omega) (fun i i0 i1 => hlb i (by omega))
  · rw [lmn _ (c11 e he).1.1]; exact (c11 e he).2.2.2.2.2.2
  · have := c13 m m0 m1
    by_cases e : m = lg
    · rw [e] at this ⊢
      unfold lmF at this ⊢
      omega
    · have e2 : lmF dk' m = lmF dk m := by unfold lmF; rw [(hd m e).1]
      rw [e2]; exact this
  · rw [hl, f1, List.length_append]
    show _ = 1 + (((bl.length + 1 : Nat) : Int))
    omega
  · rw [am]
    refine (bR.lg hR.1 (K := dk lg) (fun p p0 p1 => hlb p p1) (fun n n0 _ => nn n n0) f2 (by omega) (by omega)).app2 ?_
    rw [show (1 : Int) + bl.length = dk lg by omega]
    obtain ⟨u1, u2, u3, u4, u5⟩ := hp
    refine ⟨⟨u1, u2, by rw [u3]; omega, u4, u5⟩, hk, ⟨Int.le_refl _, rfl, ⟨[], rfl⟩⟩, by unfold lmF; omega, s', S', [], ⟨rfl, rfl, rfl⟩, Or.inl (Or.inl ?_), rfl, rfl⟩
    rw [lmn k hk.1, lk]; omega
  · rw [List.map_append, List.nodup_append]
    refine ⟨f3, List.nodup_cons.mpr ⟨List.not_mem_nil, List.nodup_nil⟩, fun a ha b hb e => ?_⟩
    obtain ⟨y, y1, y2⟩ := List.mem_map.mp ha
    have : b = k := List.mem_singleton.mp hb
    exact hkb y y1 (by rw [y2, e, this])
  · rcases List.mem_append.mp hb with q | q
    · exact f4 b q
    · rw [List.mem_singleton.mp q]
      refine ⟨?_, kx⟩
      have := c13 k (by omega) hk.2
      show tvl cf σc l z tn k ≤ 0
      omega
  · by_cases e : j = dk lg
    · rw [e, hp.2.2.1]; exact hX.2
    · rw [srl_ext (g := db lg) (n := 16) (by omega) (fun p p0 p1 => hlb p (by omega))]
      exact Int.le_trans (f6 j j0 (by omega)) (by omega)
  · have q := c4 y hy
    rw [srl_ext (g := db (gI σc 585 y)) (n := 16) (by omega) (fun p _ _ => (nn _ q.2.2.1.1).2 p)]
    exact Int.le_trans (f7 y hy) (by omega)
  · rw [srl_ext (g := db tn) (n := 16) (by omega) (fun p _ _ => (nn tn c6.1).2 p)]
    exact Int.le_trans f8.1 (by omega)
  · rw [(hd (5 - lg) (by omega)).1]
    by_cases w : dk (5 - lg) ≤ 0
    · exact Or.inl w
    · exact Or.inr (by rw [rI4_ext (h := db (5 - lg)) (fun i _ _ => (hd (5 - lg) (by omega)).2 i)]; exact hon (by omega))
