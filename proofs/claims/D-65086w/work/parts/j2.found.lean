/-! from the flash as it is to what is found -/
theorem bR.rng {tv : Nat → Int} {cf : Cf} {dk : Int → Int} {db : Int → Int → Int} {lg lr : Int} : ∀ {bl : List (Int × Int × Int × List (List Int))} {k s s' : Int} {S S' : List (Int × Int × Int × (Int → Int)) × Int}, bR tv cf dk db lg lr bl k s S s' S' → ∀ b, b ∈ bl → 4 + cf.2.2 ≤ b.1 ∧ b.1 < cf.1 - 6
  | [], _, _, _, _, _, _, b, hb => absurd hb List.not_mem_nil
  | (n, a, e, t) :: bl, k, s, s', S, S', h, b, hb => by
    obtain ⟨-, h2, -, -, s1, S1, v, -, -, h9⟩ := h
    rcases List.mem_cons.mp hb with q | q
    · rw [q]; exact h2
    · exact bR.rng h9 b q
/-- the log of the commit that goes on: page 0, and the head's bud (a page more) -/
def F2c (tv : Nat → Int) (cf : Cf) (dk : Int → Int) (db : Int → Int → Int) (σc : St) (l : Nat) (z tn c lg lr2 X n : Int) : Prop := whN tv (db (5 - lg)) 0 64 ∧ db (5 - lg) 16 = 7 ∧ srl (db (5 - lg)) 0 = lr2 ∧ rI4 (db (5 - lg)) 24 = c + 1 ∧ (dk (5 - lg) = 1 ∨ (dk (5 - lg) = 2 ∧ ∃ a sb, shP tv (db (5 - lg)) 128 8 sb n a ∧ (lr2 < sb ∧ sb ≤ X) ∧ (4 + cf.2.2 ≤ n ∧ n < cf.1 - 6) ∧ 1 ≤ dk n ∧ a = lmF dk n ∧ onC tv (db n) a ∧ ¬ isx σc l z tn n))
theorem F2c.dg {tv : Nat → Int} {cf : Cf} {dk dk' : Int → Int} {db db' : Int → Int → Int} {σc : St} {l : Nat} {z tn c lg lr2 X n : Int} (hc : CfOK cf) (hlg : lg = 2 ∨ lg = 3) (h : F2c tv cf dk db σc l z tn c lg lr2 X n) (g : DG cf (-1) dk db dk' db') (hd : 0 ≤ n → n < cf.1 - 6 → 1 ≤ dk n → lmF dk' n = lmF dk n) : F2c tv cf dk' db' σc l z tn c lg lr2 X n := by
  have hR : 0 ≤ cf.2.2 ∧ cf.2.2 ≤ 4 := hc.2.2
  have hBl : 24 ≤ cf.1 ∧ cf.1 ≤ 64 := hc.1
  obtain ⟨h1, h2, h3, h4, h5⟩ := h
  have d1 : 1 ≤ dk (5 - lg) := by
    rcases h5 with q | q
    · omega
    · have := q.1; omega
  have l1 : 0 ≤ 5 - lg ∧ 5 - lg < 4 + cf.2.2 ∧ 5 - lg < cf.1 - 6 := by clear h5; omega
  obtain ⟨-, gl, gd⟩ := g (5 - lg) l1.1 l1.2.2 (by omega)
  have de := gd d1 l1.2.1
  have lb : ∀ p, 0 ≤ p → p < 128 → db' (5 - lg) p = db (5 - lg) p := fun p p0 p1 => gl p p0 (by unfold lmF; omega)
  refine ⟨h1.ext (fun i i0 i1 => (lb _ (by omega) (by omega)).symm), by rw [lb _ (by omega) (by omega)]; exact h2, by rw [srl_ext (g := db (5 - lg)) (n := 64) (by omega) (fun p p0 p1 => lb p p0 (by omega))]; exact h3, by rw [rI4_ext (h := db (5 - lg)) (fun i i0 i1 => lb i (by omega) (by omega))]; exact h4, ?_⟩
  rw [de]
  rcases h5 with q | ⟨q, a, sb, w1, w2, w3, w4, w5, w6, w7⟩
  · exact Or.inl q
  · refine Or.inr ⟨q, a, sb, w1.sh (fun k k0 k1 => (gl _ (by omega) (by unfold lmF; omega)).symm), w2, w3, ?_, ?_, ?_, w7⟩
    · have := (g n (by omega) w3.2 (by omega)).1
      unfold lmF at this
      omega
    · rw [hd (by omega) w3.2 w4]; exact w5
    · exact w6.ext (fun i i0 i1 => (g n (by omega) w3.2 (by omega)).2.1 i i0 (by omega))
theorem bR.end {tv : Nat → Int} {cf : Cf} {dk : Int → Int} {db : Int → Int → Int} {lg lr : Int} : ∀ {bl : List (Int × Int × Int × List (List Int))} {k s s' : Int} {S S' : List (Int × Int × Int × (Int → Int)) × Int}, bR tv cf dk db lg lr bl k s S s' S' → ∀ b, b ∈ bl → b.2.2.1 ≤ lmF dk b.1
  | [], _, _, _, _, _, _, b, hb => absurd hb List.not_mem_nil
  | (n, a, e, t) :: bl, k, s, s', S, S', h, b, hb => by
    obtain ⟨-, -, -, h4, s1, S1, v, -, -, h9⟩ := h
    rcases List.mem_cons.mp hb with q | q
    · rw [q]; exact h4
    · exact bR.end h9 b q
theorem F2c.fl {tv : Nat → Int} {cf : Cf} {dk : Int → Int} {db : Int → Int → Int} {σc : St} {l : Nat} {z tn c lg lr lr2 s' X n : Int} {S' : List (Int × Int × Int × (Int → Int)) × Int} (h : F2c tv cf dk db σc l z tn c lg lr2 X n) {lm : Int → Int} (h1 : lr ≤ lr2 ∧ s' ≤ lr2 ∧ lr2 ≤ X) (hn : dk (5 - lg) = 2 → lmF dk n ≤ lm n) : FL2 tv cf dk db σc l z tn c lg lr s' X lr2 S' lm := by
  obtain ⟨w1, w2, w3, w4, w5⟩ := h
  have mx : max s' lr2 = lr2 := by omega
  refine Or.inr ?_
  rcases w5 with q | ⟨q, a, sb, y1, y2, y3, y4, y5, y6, y7⟩
  · refine ⟨[], lr2, lr2, ⟨h1.1, h1.2.2, h1.2.2, Int.le_refl _⟩, by rw [q]; rfl, w1, w2, w3, w4, ⟨mx, rfl⟩, List.nodup_nil, fun b hb => absurd hb List.not_mem_nil, fun k k0 k1 => ?_⟩
    have : k = 0 := by omega
    rw [this, Int.mul_zero, w3]; exact h1.2.2
  · refine ⟨[(n, a, a, [])], lr2, lr2, ⟨h1.1, h1.2.2, h1.2.2, Int.le_refl _⟩, by rw [q]; rfl, w1, w2, w3, w4, ?_, List.nodup_cons.mpr ⟨List.not_mem_nil, List.nodup_nil⟩, fun b hb => ?_, fun k k0 k1 => ?_⟩
    · obtain ⟨u1, u2, u3, u4, u5⟩ := y1
      have a8 := y6.m8
      refine ⟨⟨by rw [Int.mul_one]; exact u1, by rw [Int.mul_one]; exact u2, by rw [Int.mul_one, u3]; exact y2.1, by rw [Int.mul_one]; exact u4, by rw [Int.mul_one]; exact u5⟩, y3, ⟨by rw [y5]; unfold lmF; omega, a8, y6⟩, by omega, lr2, S', [], ⟨rfl, mx, rfl⟩, Or.inl (Or.inl (by omega)), rfl, rfl⟩
    · rw [List.mem_singleton.mp hb]
      exact ⟨by rw [← y5]; exact Int.le_refl _, y7, by rw [y5]; exact hn q⟩
    · have : k = 0 ∨ k = 1 := by omega
      rcases this with e | e
      · rw [e, Int.mul_zero, w3]; exact h1.2.2
      · rw [e, Int.mul_one, y1.2.2.1]; exact y2.2
/-- the flash: the commit, its buds, and the other log (V: what serial numbers a commit that goes on has) -/
def FX (tv : Nat → Int) (cf : Cf) (dk : Int → Int) (db : Int → Int → Int) (σc : St) (l : Nat) (z c lg lr sM nx tn tp : Int) (bl : List (Int × Int × Int × List (List Int))) (s' : Int) (S' : List (Int × Int × Int × (Int → Int)) × Int) (X V jn : Int) : Prop := FC tv cf dk db σc l z c lg lr sM nx tn tp ∧ FS tv cf dk db σc l z c lg lr sM nx tn tp bl s' S' X ∧ ((dk (5 - lg) ≤ 0 ∨ rI4 (db (5 - lg)) 24 ≤ c) ∨ (F2c tv cf dk db σc l z tn c lg V X jn ∧ lr ≤ V ∧ s' ≤ V ∧ V ≤ X))
theorem FX.found {tv : Nat → Int} {cf : Cf} {dk dk' : Int → Int} {db db' : Int → Int → Int} {σc : St} {l : Nat} {z c lg lr sM nx tn tp : Int} {bl : List (Int × Int × Int × List (List Int))} {s' X V b0 jn : Int} {S' : List (Int × Int × Int × (Int → Int)) × Int} {r : RT} (hc : CfOK cf) (h : FX tv cf dk db σc l z c lg lr sM nx tn tp bl s' S' X V jn) (hb : b0 ≤ lr) (hf : fnJ cf (SpC cf c b0 r) dk db dk' db') : FC tv cf dk' db' σc l z c lg lr sM nx tn tp ∧ FS tv cf dk' db' σc l z c lg lr sM nx tn tp bl s' S' X ∧ FL2 tv cf dk' db' σc l z tn c lg lr s' X V S' (lmF dk) ∧ LMo cf dk' σc l z tn bl (lmF dk) := by
  have hR : 0 ≤ cf.2.2 ∧ cf.2.2 ≤ 4 := hc.2.2
  have hBl : 24 ≤ cf.1 ∧ cf.1 ≤ 64 := hc.1
  obtain ⟨h1, h2, h3⟩ := h
  have g := hf.dg
  have hlg : lg = 2 ∨ lg = 3 := h1.1.1
  have lmc : ∀ n, 0 ≤ n → n < cf.1 - 6 → dk n ≠ -1 → lmF dk' n = lmF dk n := fun n n0 n1 q => by unfold lmF; rw [((hf n n0 n1).1 q).1]
  refine ⟨h1.dg hc (Or.inl rfl) g, h2.dg (Or.inl rfl) hc h1 g (fun b hb' => ?_), ?_, bR.end h2.2.1, fun m m0 m1 => ⟨h1.2.2.2.2.2.2.2.1 m m0 m1, by unfold lmF; omega, (g m m0 m1 (by omega)).1⟩⟩
  · have rg := bR.rng h2.2.1 b hb'
    by_cases q : dk b.1 = -1
    · have l0 : lmF dk b.1 = 0 := by unfold lmF; rw [q]; rfl
      rcases (hf b.1 (by omega) rg.2).2 q with w | ⟨w1, w2⟩
      · exact Or.inl (by unfold lmF; rw [w, q])
      · by_cases y : dk' b.1 = 0
        · exact Or.inl (by rw [l0]; unfold lmF; rw [y]; rfl)
        · refine Or.inr ⟨l0, ?_⟩
          rcases (w2 (dk' b.1) w1 (Int.le_refl _)).2.2 rg.1 with u | ⟨u1, u2⟩
          · omega
          · have e4 : rI4 (pgs db' b.1 0) 4 = rI4 (db' b.1) 4 := rI4_ext (fun i i0 i1 => by
              show db' b.1 (128 * 0 + i) = _
              rw [show 128 * 0 + i = i by omega])
            have e8 : rL8 (pgs db' b.1 0) 8 = srl (db' b.1) 0 := by
              unfold srl
              exact rL8_ext (fun i i0 i1 => by
                show db' b.1 (128 * 0 + i) = _
                rw [show 128 * 0 + i = i by omega])
            exact ⟨by rw [← e4]; exact u1, by rw [← e8]; omega⟩
    · exact Or.inl (lmc b.1 (by omega) rg.2 q)
  · rcases h3 with q | ⟨q1, q2, q3, q4⟩
    · refine Or.inl ?_
      by_cases w : dk (5 - lg) = -1
      · rcases (hf (5 - lg) (by omega) (by omega)).2 w with y | ⟨y1, y2⟩
        · exact Or.inl (by omega)
        · rcases (y2 (dk' (5 - lg)) y1 (Int.le_refl _)).1 (by omega) (by omega) with u | u
          · exact Or.inl u
          · refine Or.inr ?_
            have e : rI4 (pgs db' (5 - lg) 0) 24 = rI4 (db' (5 - lg)) 24 := rI4_ext (fun i i0 i1 => by
              show db' (5 - lg) (128 * 0 + i) = _
              rw [show 128 * 0 + i = i by omega])
            rw [e] at u
            omega
      · obtain ⟨y1, y2⟩ := (hf (5 - lg) (by omega) (by omega)).1 w
        rcases q with u | u
        · exact Or.inl (by omega)
        · by_cases v : dk (5 - lg) ≤ 0
          · exact Or.inl (by omega)
          · refine Or.inr ?_
            rw [rI4_ext (h := db (5 - lg)) (fun i i0 i1 => y2 i (by omega) (by omega))]
            omega
    · exact (q1.dg hc hlg g (fun n0 n1 d1 => lmc _ n0 n1 (by omega))).fl ⟨q2, q3, q4⟩ (fun e2 => by
        rcases q1.2.2.2.2 with w | w
        · exfalso
          have := ((hf (5 - lg) (by omega) (by omega)).1 (by omega)).1
          omega
        · have w3 := w.2
          obtain ⟨a, sb, -, -, r1, r2, -⟩ := w3
          exact Int.le_of_eq (lmc jn (by omega) r1.2 (by omega)))
/-- the flash stays told: low numbers stay, others become longer, buds do not -/
theorem FX.dg {tv : Nat → Int} {cf : Cf} {dk dk' : Int → Int} {db db' : Int → Int → Int} {σc : St} {l : Nat} {z c lg lr sM nx tn tp : Int} {bl : List (Int × Int × Int × List (List Int))} {s' X V jn : Int} {S' : List (Int × Int × Int × (Int → Int)) × Int} (hc : CfOK cf) (h : FX tv cf dk db σc l z c lg lr sM nx tn tp bl s' S' X V jn) (g : DG cf (-1) dk db dk' db') (hlo : ∀ m, 0 ≤ m → m < 4 → dk' m = dk m) (hbl : ∀ b, b ∈ bl → lmF dk' b.1 = lmF dk b.1) (hd : jn ≠ -1 → lmF dk' jn = lmF dk jn) : FX tv cf dk' db' σc l z c lg lr sM nx tn tp bl s' S' X V jn := by
  have hR : 0 ≤ cf.2.2 ∧ cf.2.2 ≤ 4 := hc.2.2
  have hBl : 24 ≤ cf.1 ∧ cf.1 ≤ 64 := hc.1
  obtain ⟨h1, h2, h3⟩ := h
  have hlg : lg = 2 ∨ lg = 3 := h1.1.1
  refine ⟨h1.dg hc (Or.inl rfl) g, h2.dg (Or.inl rfl) hc h1 g (fun b hb => Or.inl (hbl b hb)), ?_⟩
  rcases h3 with q | ⟨q1, q2⟩
  · refine Or.inl ?_
    rw [hlo (5 - lg) (by omega) (by omega)]
    by_cases w : dk (5 - lg) ≤ 0
    · exact Or.inl w
    · rcases q with u | u
      · exact absurd u w
      · exact Or.inr (by rw [rI4_ext (h := db (5 - lg)) (fun i i0 i1 => (g (5 - lg) (by omega) (by omega) (by omega)).2.1 i (by omega) (by unfold lmF; omega))]; exact u)
  · exact Or.inr ⟨q1.dg hc hlg g (fun n0 _ _ => hd (by omega)), q2⟩
