/-! what is on the flash stays told, when numbers become longer, or are found again -/
/-- numbers but x become longer, at most; low ones stay -/
def DG (cf : Cf) (x : Int) (dk : Int → Int) (db : Int → Int → Int) (dk' : Int → Int) (db' : Int → Int → Int) : Prop := ∀ n, 0 ≤ n → n < cf.1 - 6 → n ≠ x → lmF dk n ≤ lmF dk' n ∧ (∀ p, 0 ≤ p → p < lmF dk n → db' n p = db n p) ∧ (1 ≤ dk n → n < 4 + cf.2.2 → dk' n = dk n)
theorem fnJ.dg {cf : Cf} {Sp : Int → Int → (Int → Int → Int) → Prop} {dk dk' : Int → Int} {db db' : Int → Int → Int} (h : fnJ cf Sp dk db dk' db') : DG cf (-1) dk db dk' db' := by
  intro n n0 n1 _
  obtain ⟨a, b⟩ := h n n0 n1
  by_cases q : dk n = -1
  · refine ⟨by unfold lmF; omega, fun p p0 p1 => by unfold lmF at p1; omega, fun z => by omega⟩
  · obtain ⟨a1, a2⟩ := a q
    exact ⟨by unfold lmF; omega, fun p p0 p1 => a2 p p0 (by unfold lmF at p1; omega), fun _ _ => a1⟩
theorem knE.dg {tv : Nat → Int} {cf : Cf} {db db' : Int → Int → Int} {lim lim' : Int → Int} {σ : St} {x : Int} (h : knE tv cf db lim σ x) (hc : 0 ≤ gI σ 577 x) (hl : lim (gI σ 585 x) ≤ lim' (gI σ 585 x)) (e : ∀ p, 0 ≤ p → p < lim (gI σ 585 x) → db' (gI σ 585 x) p = db (gI σ 585 x) p) : knE tv cf db' lim' σ x := by
  obtain ⟨x1, x2, x3, x4, x5, x6⟩ := h
  exact ⟨x1, x2, x3, x4, by omega, x6.ext hc (fun i i0 i1 => e i (by omega) (by omega))⟩
theorem MSt.dg {tv : Nat → Int} {cf : Cf} {dk dk' : Int → Int} {db db' : Int → Int → Int} {sM c lg n p s nx tn tp x : Int} (hx : x = -1 ∨ 2 ≤ x) (hc : CfOK cf) (h : MSt tv cf dk db sM c lg n p s nx tn tp) (g : DG cf x dk db dk' db') : MSt tv cf dk' db' sM c lg n p s nx tn tp := by
  have hR : 0 ≤ cf.2.2 ∧ cf.2.2 ≤ 4 := hc.2.2
  have hBl : 24 ≤ cf.1 ∧ cf.1 ≤ 64 := hc.1
  refine ⟨h.1, fun m hm => ?_⟩
  obtain ⟨a, b, d⟩ := h.2 m hm
  obtain ⟨-, g2, g3⟩ := g m (by omega) (by omega) (by omega)
  have e := g3 a (by omega)
  rw [e]
  refine ⟨a, b.sh (fun k k0 k1 => (g2 _ (by omega) (by unfold lmF; omega)).symm), fun k k0 k1 => ?_⟩
  rw [srl_ext (g := db m) (n := 128) (by omega) (fun p p0 p1 => g2 p (by omega) (by unfold lmF; omega))]
  exact d k k0 k1
theorem FC.dg {tv : Nat → Int} {cf : Cf} {dk dk' : Int → Int} {db db' : Int → Int → Int} {σc : St} {l : Nat} {z c lg lr sM nx tn tp : Int} {x : Int} (hc : CfOK cf) (h : FC tv cf dk db σc l z c lg lr sM nx tn tp) (hx : x = -1 ∨ x = 5 - lg) (g : DG cf x dk db dk' db') : FC tv cf dk' db' σc l z c lg lr sM nx tn tp := by
  have hR : 0 ≤ cf.2.2 ∧ cf.2.2 ≤ 4 := hc.2.2
  have hBl : 24 ≤ cf.1 ∧ cf.1 ≤ 64 := hc.1
  have tr := tbl_r hc
  obtain ⟨⟨h1, h1'⟩, h2, ⟨h3, h4, h5⟩, ⟨h6, h7, h8, h9⟩, h10, h11, h12, h13, h14⟩ := h
  have am : AM db' (ls σc l z) = AM db (ls σc l z) := AM.grow h11 (fun e he p p0 p1 => by
    have q := h11 e he
    exact (g _ (by omega) q.1.2 (by omega)).2.1 p (by omega) (by have := q.2.2.2.2.2.2; omega))
  refine ⟨⟨h1, h1'⟩, h2.dg (by omega) hc g, ⟨h3, fun y hy => ?_, h5⟩, ⟨h6, h7, ?_, fun m m0 m1 => ?_⟩, ?_, h11.grow (fun e he => ?_) (fun e he p p0 p1 => ?_), h12, fun m m0 m1 => ?_, h14⟩
  · have k := h4 y hy
    have r := k.2.2.1
    exact k.dg (h3.kcnt y hy).1 (g _ (by omega) r.2 (by omega)).1 (fun p p0 p1 => (g _ (by omega) r.2 (by omega)).2.1 p p0 p1)
  · exact Int.le_trans h8 (g tn (by omega) h6.2 (by omega)).1
  · rw [rI4_ext (h := db tn) (fun i i0 i1 => (g tn (by omega) h6.2 (by omega)).2.1 i (by omega) (by
      have td : tbl cf = (24 + 4 * (cf.1 - 10 - cf.2.2) + 7) / 8 * 8 := rfl
      omega))]
    exact h9 m m0 m1
  · obtain ⟨-, g2, g3⟩ := g lg (by omega) (by omega) (by omega)
    have q : lgP tv dk db lg lr c (AM db (ls σc l z)) := h10
    rw [am]
    exact q.ext (g3 q.1 (by omega)) (fun i i0 i1 => g2 i i0 (by have := q.1; unfold lmF; omega))
  · have q := h11 e he
    have := (g _ (show 0 ≤ e.2.2.1 by omega) q.1.2 (by omega)).1
    have := q.2.2.2.2.2.2
    omega
  · have q := h11 e he
    exact (g _ (by omega) q.1.2 (by omega)).2.1 p p0 (by have := q.2.2.2.2.2.2; omega)
  · by_cases e : m = x
    · have b3 : kS σc (kl σc l z) m = 0 := by
        by_cases k : kS σc (kl σc l z) m = 0
        · exact k
        · obtain ⟨y, y1, y2, y3⟩ := kS_ex k
          have := (h4 y y1).2.2.1
          omega
      have b1 : lS (ls σc l z) m = 0 := lS_out (fun e he => by have := (h11 e he).1; omega)
      have b4 : 0 ≤ lmF dk' m := by unfold lmF; omega
      unfold tvl
      rw [b1, b3, if_neg (by omega)]
      omega
    · exact Int.le_trans (h13 m m0 m1) (g m m0 m1 e).1
theorem FC.am {tv : Nat → Int} {cf : Cf} {dk dk' : Int → Int} {db db' : Int → Int → Int} {σc : St} {l : Nat} {z c lg lr sM nx tn tp : Int} {x : Int} (hc : CfOK cf) (h : FC tv cf dk db σc l z c lg lr sM nx tn tp) (hx : x = -1 ∨ x = 5 - lg) (g : DG cf x dk db dk' db') : AM db' (ls σc l z) = AM db (ls σc l z) := by
  have hR : 0 ≤ cf.2.2 ∧ cf.2.2 ≤ 4 := hc.2.2
  obtain ⟨⟨h1, -⟩, -, -, -, -, h11, -⟩ := h
  exact AM.grow h11 (fun e he p p0 p1 => by
    have q := h11 e he
    exact (g _ (by omega) q.1.2 (by omega)).2.1 p (by omega) (by have := q.2.2.2.2.2.2; omega))
theorem bR.dg {tv : Nat → Int} {cf : Cf} {dk dk' : Int → Int} {db db' : Int → Int → Int} {lg lr x : Int} (hx : x = -1 ∨ x = 5 - lg) (hc : CfOK cf) (g : DG cf x dk db dk' db') (hlg : lg = 2 ∨ lg = 3) : ∀ {bl : List (Int × Int × Int × List (List Int))} {k s s' : Int} {S S' : List (Int × Int × Int × (Int → Int)) × Int}, bR tv cf dk db lg lr bl k s S s' S' → 0 ≤ k → k + bl.length ≤ dk lg → lr ≤ s → (∀ b, b ∈ bl → lmF dk' b.1 = lmF dk b.1 ∨ (lmF dk b.1 = 0 ∧ rI4 (db' b.1) 4 ≠ 0 ∧ srl (db' b.1) 0 ≤ lr)) → bR tv cf dk' db' lg lr bl k s S s' S'
  | [], _, _, _, _, _, h, _, _, _, _ => h
  | (n, a, b, t) :: bl, k, s, s', S, S', h, k0, k1, hs, ht => by
    have hR : 0 ≤ cf.2.2 ∧ cf.2.2 ≤ 4 := hc.2.2
    have hBl : 24 ≤ cf.1 ∧ cf.1 ≤ 64 := hc.1
    obtain ⟨⟨w1, w2, w3, w4, w5⟩, h2, ⟨h3, h4, h5⟩, h6, s1, S1, v, h7, h8, h9⟩ := h
    rw [List.length_cons] at k1
    obtain ⟨-, gl, -⟩ := g lg (by omega) (by omega) (by omega)
    have lgb : ∀ p, 128 * k ≤ p → p < 128 * k + 64 → db' lg p = db lg p := fun p p0 p1 => gl p (by omega) (by unfold lmF; omega)
    obtain ⟨gn1, gn2, -⟩ := g n (by omega) h2.2 (by omega)
    have le := sM_le h7
    have r4 : ∀ j, 0 ≤ j → j + 4 ≤ 64 → rI4 (db' lg) (128 * k + j) = rI4 (db lg) (128 * k + j) := fun j j0 j1 => rI4_ext (fun i i0 i1 => lgb i (by omega) (by omega))
    have ih := fun {s s' : Int} {S S' : List (Int × Int × Int × (Int → Int)) × Int} (h : bR tv cf dk db lg lr bl (k + 1) s S s' S') (hs : lr ≤ s) => bR.dg hx hc g hlg h (by omega) (by omega) hs (fun b hb => ht b (List.mem_cons_of_mem _ hb))
    refine ⟨⟨w1.ext (fun i i0 i1 => (lgb _ (by omega) (by omega)).symm), by rw [lgb _ (by omega) (by omega)]; exact w2, by rw [srl_ext (g := db lg) (n := 64) (by omega) (fun p p0 p1 => lgb p p0 (by omega))]; exact w3, by rw [r4 24 (by omega) (by omega)]; exact w4, by rw [r4 28 (by omega) (by omega)]; exact w5⟩, h2, ⟨h3, h4, h5.ext (fun i i0 i1 => gn2 i i0 (by omega))⟩, by omega, ?_⟩
    have sm' := sM_ext (h := db' n) h7 (fun p p0 p1 => gn2 p (by omega) (by omega))
    rcases ht (n, a, b, t) List.mem_cons_self with q | ⟨q1, q2, q3⟩
    · have q' : lmF dk' n = lmF dk n := q
      exact ⟨s1, S1, v, sm', by rw [q']; exact h8.ext (fun p p0 p1 => gn2 p (by omega) p1), ih h9 (by omega)⟩
    · have q1' : lmF dk n = 0 := q1
      have a0 : a = 0 := by omega
      have b0 : b = 0 := by omega
      have q2' : rI4 (db' n) 4 ≠ 0 := q2
      have q3' : srl (db' n) 0 ≤ lr := q3
      refine ⟨s1, S1, [], sm', Or.inr ?_, ih h9 (by omega)⟩
      rw [b0, Int.zero_add]
      exact ⟨q2', by omega⟩
theorem FS.dg {tv : Nat → Int} {cf : Cf} {dk dk' : Int → Int} {db db' : Int → Int → Int} {σc : St} {l : Nat} {z c lg lr sM nx tn tp : Int} {bl : List (Int × Int × Int × List (List Int))} {s' X x : Int} {S' : List (Int × Int × Int × (Int → Int)) × Int} (hx : x = -1 ∨ x = 5 - lg) (hc : CfOK cf) (hF : FC tv cf dk db σc l z c lg lr sM nx tn tp) (h : FS tv cf dk db σc l z c lg lr sM nx tn tp bl s' S' X) (g : DG cf x dk db dk' db') (ht : ∀ b, b ∈ bl → lmF dk' b.1 = lmF dk b.1 ∨ (lmF dk b.1 = 0 ∧ rI4 (db' b.1) 4 ≠ 0 ∧ srl (db' b.1) 0 ≤ lr)) : FS tv cf dk' db' σc l z c lg lr sM nx tn tp bl s' S' X := by
  have hR : 0 ≤ cf.2.2 ∧ cf.2.2 ≤ 4 := hc.2.2
  have hBl : 24 ≤ cf.1 ∧ cf.1 ≤ 64 := hc.1
  have tr := tbl_r hc
  have am := hF.am hc hx g
  obtain ⟨⟨h1, h1'⟩, -, ⟨h3, h4, h5⟩, ⟨h6, h7, h8, h9⟩, h10, h11, -⟩ := hF
  obtain ⟨f1, f2, f3, f4, f5, f6, f7, f8⟩ := h
  have d1 : 1 ≤ dk lg := h10.1
  obtain ⟨-, gl, gd⟩ := g lg (by omega) (by omega) (by omega)
  have de := gd d1 (by omega)
  refine ⟨by rw [de]; exact f1, by rw [am]; exact f2.dg hx hc g h1 (by omega) (by omega) (Int.le_refl _) ht, f3, f4, f5, fun k k0 k1 => ?_, fun y hy => ?_, ?_, f8.2.g (fun e he p p0 p1 => ?_)⟩
  · rw [de] at k1
    rw [srl_ext (g := db lg) (n := 128) (by omega) (fun p p0 p1 => gl p (by omega) (by unfold lmF; omega))]
    exact f6 k k0 k1
  · have k := h4 y hy
    have r := k.2.2.1
    have sz := k.sz (h3.kcnt y hy)
    rw [srl_ext (g := db (gI σc 585 y)) (n := gI σc 587 y) (by omega) (fun p p0 p1 => (g _ (by omega) r.2 (by omega)).2.1 p (by have := k.2.2.2.1; omega) (by have := k.2.2.2.2.1; omega))]
    exact f7 y hy
  · rw [srl_ext (g := db tn) (n := tbl cf) (by omega) (fun p p0 p1 => (g tn (by omega) h6.2 (by omega)).2.1 p (by omega) (by omega))]
    exact f8.1
  · have q := h11 e he
    have nn := q.2.1.n
    exact (g _ (by omega) q.1.2 (by omega)).2.1 p (by omega) (by have := q.2.2.2.2.2.2; omega)
