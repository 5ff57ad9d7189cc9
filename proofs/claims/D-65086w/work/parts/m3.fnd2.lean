/-! what is found after a cut, with a closer bound -/
theorem FX.fnd2 {tv : Nat → Int} {cf : Cf} {dk dk' : Int → Int} {db db' : Int → Int → Int} {σc : St} {l : Nat} {z c lg lr sv nx tn tp : Int} {bl : List (Int × Int × Int × List (List Int))} {s' X V b0 jn : Int} {S' : List (Int × Int × Int × (Int → Int)) × Int} {r : RT} {lm : Int → Int} (hc : CfOK cf) (h : FX tv cf dk db σc l z c lg lr sv nx tn tp bl s' S' X V jn) (hb : b0 ≤ lr) (hf : fnJ cf (SpC cf c b0 r) dk db dk' db') (hj : dk (5 - lg) = 2 → rI4 (db (5 - lg)) 24 = c + 1 → lmF dk jn ≤ lm jn) (hbl : ∀ b, b ∈ bl → lmF dk b.1 ≤ lm b.1) (hlm : ∀ m, 0 ≤ m → m < cf.1 - 6 → tvl cf σc l z tn m ≤ lm m ∧ 0 ≤ lm m ∧ lm m ≤ lmF dk m) : FC tv cf dk' db' σc l z c lg lr sv nx tn tp ∧ FS tv cf dk' db' σc l z c lg lr sv nx tn tp bl s' S' X ∧ FL2 tv cf dk' db' σc l z tn c lg lr s' X V S' lm ∧ LMo cf dk' σc l z tn bl lm := by
  have hR : 0 ≤ cf.2.2 ∧ cf.2.2 ≤ 4 := hc.2.2
  have hBl : 24 ≤ cf.1 ∧ cf.1 ≤ 64 := hc.1
  obtain ⟨a1, a2, a3, a4⟩ := h.found hc hb hf
  refine ⟨a1, a2, ?_, fun b q => Int.le_trans (a4.1 b q) (hbl b q), fun m m0 m1 => ⟨(hlm m m0 m1).1, (hlm m m0 m1).2.1, Int.le_trans (hlm m m0 m1).2.2 ?_⟩⟩
  · obtain ⟨h1, h2, h3⟩ := h
    have g := hf.dg
    have hlg : lg = 2 ∨ lg = 3 := h1.1.1
    have lmc : ∀ n, 0 ≤ n → n < cf.1 - 6 → dk n ≠ -1 → lmF dk' n = lmF dk n := fun n n0 n1 q => by unfold lmF; rw [((hf n n0 n1).1 q).1]
    rcases h3 with q | ⟨q1, q2, q3, q4⟩
    · refine Or.inl ?_
      by_cases w : dk (5 - lg) = -1
      · rcases (hf (5 - lg) (by omega) (by omega)).2 w with y | ⟨y1, y2⟩
        · exact Or.inl (by omega)
        · rcases (y2 (dk' (5 - lg)) y1 (Int.le_refl _)).1 (by omega) (by omega) with u | u
          · exact Or.inl u
          · refine Or.inr ?_
            have e : rI4 (pgs db' (5 - lg) 0) 24 = rI4 (db' (5 - lg)) 24 := rI4_ext (fun i i0 i1 => by
              show db' (5 - lg) (128 * 0 + i) = _
              rw [show 128 * 0 + i = i by omega])
            rw [e] at u
            omega
      · obtain ⟨y1, y2⟩ := (hf (5 - lg) (by omega) (by omega)).1 w
        rcases q with u | u
        · exact Or.inl (by omega)
        · by_cases v : dk (5 - lg) ≤ 0
          · exact Or.inl (by omega)
          · refine Or.inr ?_
            rw [rI4_ext (h := db (5 - lg)) (fun i i0 i1 => y2 i (by omega) (by omega))]
            omega
    · have c1 := q1.2.2.2.1
      have q1' := q1.dg hc hlg g (fun n0 n1 d1 => lmc _ n0 n1 (by omega))
      refine q1'.fl ⟨q2, q3, q4⟩ (fun e2 => ?_)
      rcases q1.2.2.2.2 with w | w
      · exfalso
        have := ((hf (5 - lg) (by omega) (by omega)).1 (by omega)).1
        omega
      · have w3 := w.2
        obtain ⟨a, sb, -, -, r1, r2, -⟩ := w3
        rw [lmc jn (by omega) r1.2 (by omega)]
        exact hj w.1 c1
  · exact (hf.dg m m0 m1 (by omega)).1
/-- what a cut leaves: the flash, and memory that find begins with -/
def OX (tv : Nat → Int) (cf : Cf) (σ : St) (dk : Int → Int) (db : Int → Int → Int) (S' : List (Int × Int × Int × (Int → Int)) × Int) (r : RT) (B : Int) : Prop :=
  ∃ (σc : St) (l : Nat) (z c lg lr sv nx tn tp : Int) (bl : List (Int × Int × Int × List (List Int))) (s' b0 X V jn : Int) (lm : Int → Int), FX tv cf dk db σc l z c lg lr sv nx tn tp bl s' S' X V jn ∧ (DJ tv cf σ 0 dk db (SpC cf c b0 r) B ∧ b0 ≤ lr) ∧ (∃ L, IX σ 0 L ∧ L.length ≤ 890) ∧ ((dk (5 - lg) = 2 → rI4 (db (5 - lg)) 24 = c + 1 → lmF dk jn ≤ lm jn) ∧ (∀ b, b ∈ bl → lmF dk b.1 ≤ lm b.1) ∧ ∀ m, 0 ≤ m → m < cf.1 - 6 → tvl cf σc l z tn m ≤ lm m ∧ 0 ≤ lm m ∧ lm m ≤ lmF dk m) ∧ (∀ m, 4 + cf.2.2 ≤ m → m < cf.1 - 6 → 1 ≤ dk m → (rI4 (db m) 4 ≠ 0 ∧ srl (db m) 0 ≤ X) ∧ CN tv (db m) (lmF dk m) 0) ∧ (c + 1 < 1073741824 ∧ c ≤ B ∧ X ≤ 1000000 * B + 331) ∧ (X ≤ max (lgY dk db lg sv) s' + 900 ∨ (0 < dk (5 - lg) ∧ rI4 (db (5 - lg)) 24 = c + 1 ∧ X ≤ V + 900)) ∧ (whl cf ≤ ((@cnt (fun m => 4 + cf.2.2 ≤ m ∧ lm m = 0) (fun _ => Classical.propDecidable _) (cf.1 - 6).toNat : Nat) : Int) ∧ 2 * whl cf + 2 ≤ ((@cnt (fun m => 4 + cf.2.2 ≤ m ∧ (lm m = 0 ∨ isx σc l z tn m)) (fun _ => Classical.propDecidable _) (cf.1 - 6).toNat : Nat) : Int)) ∧ ((1 ≤ dk (5 - lg) → rI4 (db (5 - lg)) 24 ≤ c + 1) ∧ (1 ≤ dk lg → rI4 (db lg) 24 ≤ c + 1)) ∧ (∀ m, (m = 0 ∨ m = 1) → ∀ k, 0 ≤ k → k < dk m → srl (db m) (128 * k) ≤ X)
