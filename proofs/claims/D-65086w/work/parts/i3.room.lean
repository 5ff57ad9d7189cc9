/-! room in a commit -/
theorem KHo.em {cf : Cf} {σ τ : St} {sz : Int} (h : KHo cf σ τ sz) (hn : 4 + cf.2.2 ≤ gI τ 451 4 ∧ gI τ 451 4 < cf.1 - 6) (h0 : 0 ≤ cf.2.2) (hu : gI σ 451 4 ≠ -1 → gA σ 323 0 (gI σ 451 4) ≠ 0) :
    (emp cf (gA τ 323 0) = emp cf (gA σ 323 0) ∧ gI τ 451 4 = gI σ 451 4 ∧ gI σ 451 4 ≠ -1 ∧ gI τ 452 4 = gI σ 452 4 + sz) ∨ (emp cf (gA τ 323 0) + 1 = emp cf (gA σ 323 0) ∧ (gI σ 451 4 = -1 ∨ (cf.2.1 - 2) * 128 < gI σ 452 4 + sz) ∧ gI τ 452 4 = sz) := by
  rcases h with ⟨q1, q2, q3, q4, q5⟩ | ⟨q1, q2, q3, q4, q5, q6⟩
  · exact Or.inl ⟨by rw [q4], q2, q1, q3⟩
  · refine Or.inr ⟨?_, q1, q2⟩
    have := cnt_dec (p := fun k => 4 + cf.2.2 ≤ k ∧ gA σ 323 0 k = 0) (q := fun k => 4 + cf.2.2 ≤ k ∧ gA τ 323 0 k = 0) (k := gI τ 451 4) (cf.1 - 6).toNat (fun i i0 i1 ne => ?_) ⟨hn.1, q3⟩ (fun z => ?_) (by omega) (by omega)
    · unfold emp; omega
    · rw [q5 i i0, if_neg ne]
      by_cases e : i = gI σ 451 4
      · rw [if_pos e, e]
        have := hu (by omega)
        constructor
        · intro z; exact absurd z.2 this
        · intro z; exact absurd z.2 (by omega)
      · rw [if_neg e]
    · have := z.2
      rw [q5 _ (by omega), if_pos rfl] at this
      omega
theorem KHo.rm {cf : Cf} {σ τ : St} {sz : Int} (h : KHo cf σ τ sz) (h0 : 0 ≤ cf.2.2) (hu : gI σ 451 4 ≠ -1 → gA σ 323 0 (gI σ 451 4) ≠ 0) : rmy cf (gA τ 323 0) (gA τ 325 0) = rmy cf (gA σ 323 0) (gA σ 325 0) := by
  rcases h with ⟨q1, q2, q3, q4, q5⟩ | ⟨q1, q2, q3, q4, q5, q6⟩
  · rw [q4, q5]
  · have := cnt_eq (p := fun k => 4 + cf.2.2 ≤ k ∧ (gA τ 323 0 k = 0 ∨ gA τ 325 0 k ≠ 0)) (q := fun k => 4 + cf.2.2 ≤ k ∧ (gA σ 323 0 k = 0 ∨ gA σ 325 0 k ≠ 0)) (cf.1 - 6).toNat (fun i i0 i1 => ?_)
    · unfold rmy; omega
    · rw [q6, q5 i i0]
      unfold upF
      by_cases e : i = gI τ 451 4
      · rw [if_pos e, if_pos e, e, q3]
        constructor
        · intro z; exact ⟨z.1, Or.inl rfl⟩
        · intro z; exact ⟨z.1, Or.inr (by omega)⟩
      · rw [if_neg e, if_neg e]
        by_cases e2 : i = gI σ 451 4
        · rw [if_pos e2, e2]
          have := hu (by omega)
          constructor
          · intro z
            refine ⟨z.1, Or.inr ?_⟩
            rcases z.2 with y | y
            · exact absurd y (by omega)
            · exact y
          · intro z
            refine ⟨z.1, Or.inr ?_⟩
            rcases z.2 with y | y
            · exact absurd y this
            · exact y
        · rw [if_neg e2]
/-- fetches f, bytes W written in what was fetched, at least G numbers stay empty; NW: the numbers that knots came to; Old: knots that were there -/
def CRm (cf : Cf) (σ : St) (f W G Fr : Int) (NW Old : List Int) : Prop := (0 ≤ f ∧ 0 ≤ W ∧ 0 ≤ Fr) ∧ (f = 0 ∨ (gI σ 451 4 ≠ -1 ∧ (f - 1) * ((cf.2.1 - 2) * 128 - 248) + gI σ 452 4 ≤ W)) ∧ cst cf (W + Fr) - f + G ≤ emp cf (gA σ 323 0) ∧ ((NW.length : Int) ≤ f + 1 ∧ (gI σ 451 4 ≠ -1 → gI σ 451 4 ∈ NW) ∧ ∀ x, x ∈ krt σ 0 → gI σ 584 x = 0 → x ∈ Old ∨ gI σ 585 x ∈ NW) ∧ ∀ k, 4 + cf.2.2 ≤ k → k < cf.1 - 6 → gA σ 325 0 k ≠ 0 → gA σ 323 0 k = 2 → k = gI σ 451 4
theorem CRm.fc {cf : Cf} {σ : St} {f W G Fr : Int} {NW Old : List Int} (hc : CfOK cf) (h : CRm cf σ f W G Fr NW Old) (hp : gI σ 451 4 ≠ -1 → 0 ≤ gI σ 452 4) : f ≤ cst cf (W + Fr) := by
  have hP : 8 ≤ cf.2.1 ∧ cf.2.1 ≤ 32 := hc.2.1
  have tr := tbl_r hc
  obtain ⟨⟨h1, h2, h2'⟩, h3, -⟩ := h
  unfold cst
  rcases h3 with q | ⟨q1, q2⟩
  · have : 0 ≤ (W + Fr + tbl cf) / ((cf.2.1 - 2) * 128 - 248) := Int.ediv_nonneg (by omega) (by omega)
    omega
  · have hp := hp q1
    have := (Int.le_ediv_iff_mul_le (a := f - 1) (b := W + Fr + tbl cf) (c := (cf.2.1 - 2) * 128 - 248) (by omega)).mpr (by omega)
    omega
theorem CRm.need {cf : Cf} {σ : St} {f W G Fr sz : Int} {NW Old : List Int} (hc : CfOK cf) (h : CRm cf σ f W G Fr NW Old) (hp : gI σ 451 4 ≠ -1 → gI σ 452 4 % 8 = 0) (hz : 0 ≤ sz ∧ sz ≤ 256) (hG : 0 ≤ G) (hn : gI σ 451 4 = -1 ∨ (cf.2.1 - 2) * 128 < gI σ 452 4 + sz) : 1 ≤ emp cf (gA σ 323 0) := by
  have hP : 8 ≤ cf.2.1 ∧ cf.2.1 ≤ 32 := hc.2.1
  have tr := tbl_r hc
  obtain ⟨⟨h1, h2, h2'⟩, h3, h4, -⟩ := h
  have c1 : cst cf (W + Fr) = 1 + (W + Fr + tbl cf) / ((cf.2.1 - 2) * 128 - 248) := rfl
  rcases h3 with q | ⟨q1, q2⟩
  · have : 0 ≤ (W + Fr + tbl cf) / ((cf.2.1 - 2) * 128 - 248) := Int.ediv_nonneg (by omega) (by omega)
    omega
  · have p8 := hp q1
    have pl : (cf.2.1 - 2) * 128 - 248 ≤ gI σ 452 4 := by
      rcases hn with y | y
      · exact absurd y q1
      · omega
    have e : f * ((cf.2.1 - 2) * 128 - 248) = (f - 1) * ((cf.2.1 - 2) * 128 - 248) + ((cf.2.1 - 2) * 128 - 248) := by
      rw [show f = (f - 1) + 1 by omega, Int.add_mul, Int.one_mul, show f - 1 + 1 - 1 = f - 1 by omega]
    have := (Int.le_ediv_iff_mul_le (a := f) (b := W + Fr + tbl cf) (c := (cf.2.1 - 2) * 128 - 248) (by omega)).mpr (by omega)
    omega
theorem CRm.step {cf : Cf} {σ τ : St} {f W G Fr sz : Int} {NW Old : List Int} (hc : CfOK cf) (h : CRm cf σ f W G Fr NW Old) (hk : KHo cf σ τ sz) (hn : 4 + cf.2.2 ≤ gI τ 451 4 ∧ gI τ 451 4 < cf.1 - 6) (hu : gI σ 451 4 ≠ -1 → gA σ 323 0 (gI σ 451 4) ≠ 0) (hp : gI σ 451 4 ≠ -1 → gI σ 452 4 % 8 = 0) (hz : 0 ≤ sz ∧ sz ≤ 256) (hF : sz ≤ Fr)
    (hx : ∀ x, x ∈ krt τ 0 → gI τ 584 x = 0 → (x ∈ krt σ 0 ∧ gI σ 584 x = 0 ∧ gI τ 585 x = gI σ 585 x) ∨ gI τ 585 x = gI τ 451 4) : ∃ f' NW', CRm cf τ f' (W + sz) G (Fr - sz) NW' Old := by
  have hP : 8 ≤ cf.2.1 ∧ cf.2.1 ≤ 32 := hc.2.1
  have hR : 0 ≤ cf.2.2 ∧ cf.2.2 ≤ 4 := hc.2.2
  obtain ⟨⟨h1, h2, h2'⟩, h3, h4, ⟨h5, h6, h7⟩, h8⟩ := h
  have h8' : ∀ k, 4 + cf.2.2 ≤ k → k < cf.1 - 6 → gA τ 325 0 k ≠ 0 → gA τ 323 0 k = 2 → k = gI τ 451 4 := by
    intro k k0 k1 a b
    rcases hk with ⟨q1, q2, q3, q4, q5⟩ | ⟨q1, q2, q3, q4, q5, q6⟩
    · rw [q2]; rw [q4] at b; rw [q5] at a; exact h8 k k0 k1 a b
    · by_cases e : k = gI τ 451 4
      · exact e
      · rw [q5 k (by omega), if_neg e] at b
        by_cases e2 : k = gI σ 451 4
        · rw [if_pos e2] at b; omega
        · rw [if_neg e2] at b
          rw [q6] at a
          unfold upF at a
          rw [if_neg e] at a
          exact absurd (h8 k k0 k1 a b) e2
  rcases hk.em hn hR.1 hu with ⟨q1, q2, q3, q4⟩ | ⟨q1, q2, q3⟩
  · refine ⟨f, NW, ⟨⟨h1, by omega, by omega⟩, ?_, by rw [q1, show W + sz + (Fr - sz) = W + Fr by omega]; exact h4, ⟨h5, fun _ => by rw [q2]; exact h6 q3, fun x hx' hf => ?_⟩, h8'⟩⟩
    · rcases h3 with z | ⟨z1, z2⟩
      · exact Or.inl z
      · exact Or.inr ⟨by rw [q2]; exact q3, by rw [q4]; omega⟩
    · rcases hx x hx' hf with ⟨y1, y2, y3⟩ | y
      · rw [y3]; exact h7 x y1 y2
      · exact Or.inr (by rw [y, q2]; exact h6 q3)
  · refine ⟨f + 1, gI τ 451 4 :: NW, ⟨⟨by omega, by omega, by omega⟩, Or.inr ⟨by omega, ?_⟩, by rw [show W + sz + (Fr - sz) = W + Fr by omega]; omega, ⟨by rw [List.length_cons]; omega, fun _ => List.mem_cons_self, fun x hx' hf => ?_⟩, h8'⟩⟩
    · rw [q3]
      rcases h3 with z | ⟨z1, z2⟩
      · rw [z]; omega
      · have p8 := hp z1
        have pl : (cf.2.1 - 2) * 128 - 248 ≤ gI σ 452 4 := by
          rcases q2 with y | y
          · exact absurd y z1
          · omega
        have e : (f + 1 - 1) * ((cf.2.1 - 2) * 128 - 248) = (f - 1) * ((cf.2.1 - 2) * 128 - 248) + ((cf.2.1 - 2) * 128 - 248) := by
          rw [show f + 1 - 1 = (f - 1) + 1 by omega, Int.add_mul, Int.one_mul]
        omega
    · rcases hx x hx' hf with ⟨y1, y2, y3⟩ | y
      · rw [y3]
        rcases h7 x y1 y2 with w | w
        · exact Or.inl w
        · exact Or.inr (List.mem_cons_of_mem _ w)
      · exact Or.inr (by rw [y]; exact List.mem_cons_self)
/-- a list of all that is counted -/
theorem cnt_list {p : Int → Prop} [DecidablePred p] : ∀ (K : List Int) (n : Nat), (∀ i : Int, 0 ≤ i → i < n → p i → i ∈ K) → cnt p n ≤ K.length := by
  intro K n h
  refine cnt_inj n K.length (fun i => ((K.idxOf i : Nat) : Int)) (fun i i0 i1 hp => ?_) (fun i j i0 i1 j0 j1 hi hj e => ?_)
  · have := List.idxOf_lt_length_iff.mpr (h i i0 i1 hp)
    show 0 ≤ ((K.idxOf i : Nat) : Int) ∧ ((K.idxOf i : Nat) : Int) < K.length
    omega
  · have a := List.idxOf_lt_length_iff.mpr (h i i0 i1 hi)
    have b := List.idxOf_lt_length_iff.mpr (h j j0 j1 hj)
    have e' : K.idxOf i = K.idxOf j := by
      have : ((K.idxOf i : Nat) : Int) = ((K.idxOf j : Nat) : Int) := e
      omega
    have c1 := List.getElem_idxOf a
    have c2 := List.getElem_idxOf b
    have c3 : K[K.idxOf i] = K[K.idxOf j] := by congr 1
    rw [c1, c2] at c3
    exact c3
