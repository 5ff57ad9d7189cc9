/-! a knot is written -/
/-- the row of a knot, its first y places told -/
def knRw (σ : St) (x y : Int) (g : Int → Int) : Prop := (rI4 g 4 = szK (gI σ 577 x) ∧ g 16 = 5 ∧ rI4 g 20 = 1414677829 ∧ rI4 g 24 = gI σ 576 x ∧ rI4 g 28 = gI σ 577 x) ∧ ∀ k, 0 ≤ k → k < y → rL8 g (32 + 28 * k) = gA σ 578 x k ∧ rL8 g (40 + 28 * k) = gA σ 579 x k ∧ rI4 g (48 + 28 * k) = oN σ x k ∧ rI4 g (52 + 28 * k) = oP σ x k ∧ rI4 g (56 + 28 * k) = oZ σ x k
theorem rL8_o {g : Int → Int} {a b v : Int} (h : b + 8 ≤ a ∨ a + 4 ≤ b) : rL8 (pI4 g a v) b = rL8 g b := rL8_ext (fun i h1 h2 => pI4_out (by omega))
theorem rI4_o8 {g : Int → Int} {a b v : Int} (h : b + 4 ≤ a ∨ a + 8 ≤ b) : rI4 (pL8 g a v) b = rI4 g b := rI4_ext (fun i h1 h2 => pL8_out (by omega))
theorem rL8_o8 {g : Int → Int} {a b v : Int} (h : b + 8 ≤ a ∨ a + 8 ≤ b) : rL8 (pL8 g a v) b = rL8 g b := rL8_ext (fun i h1 h2 => pL8_out (by omega))
/-- one place more -/
theorem knRw.nx {σ : St} {x y : Int} {g : Int → Int} (hrk : RK σ) (h : knRw σ x y g) (hy : 0 ≤ y) (r3 : rI (oN σ x y)) (r4 : rI (oP σ x y)) (r5 : rI (oZ σ x y)) : knRw σ x (y + 1) (pI4 (pI4 (pI4 (pL8 (pL8 g (0 + 24 + (8 + 28 * y)) (gA σ 578 x y)) (0 + 24 + (16 + 28 * y)) (gA σ 579 x y)) (0 + 24 + (24 + 28 * y)) (oN σ x y)) (0 + 24 + (28 + 28 * y)) (oP σ x y)) (0 + 24 + (32 + 28 * y)) (oZ σ x y)) := by
  obtain ⟨⟨h1, h2, h3, h4, h5⟩, h6⟩ := h
  have o4 : ∀ b, b + 4 ≤ 32 + 28 * y → rI4 (pI4 (pI4 (pI4 (pL8 (pL8 g (0 + 24 + (8 + 28 * y)) (gA σ 578 x y)) (0 + 24 + (16 + 28 * y)) (gA σ 579 x y)) (0 + 24 + (24 + 28 * y)) (oN σ x y)) (0 + 24 + (28 + 28 * y)) (oP σ x y)) (0 + 24 + (32 + 28 * y)) (oZ σ x y)) b = rI4 g b := fun b hb => by
    rw [rI4_o (by omega), rI4_o (by omega), rI4_o (by omega), rI4_o8 (by omega), rI4_o8 (by omega)]
  have o8 : ∀ b, b + 8 ≤ 32 + 28 * y → rL8 (pI4 (pI4 (pI4 (pL8 (pL8 g (0 + 24 + (8 + 28 * y)) (gA σ 578 x y)) (0 + 24 + (16 + 28 * y)) (gA σ 579 x y)) (0 + 24 + (24 + 28 * y)) (oN σ x y)) (0 + 24 + (28 + 28 * y)) (oP σ x y)) (0 + 24 + (32 + 28 * y)) (oZ σ x y)) b = rL8 g b := fun b hb => by
    rw [rL8_o (by omega), rL8_o (by omega), rL8_o (by omega), rL8_o8 (by omega), rL8_o8 (by omega)]
  refine ⟨⟨by rw [o4 _ (by omega)]; exact h1, ?_, by rw [o4 _ (by omega)]; exact h3, by rw [o4 _ (by omega)]; exact h4, by rw [o4 _ (by omega)]; exact h5⟩, fun k k0 k1 => ?_⟩
  · rw [pI4_out (by omega), pI4_out (by omega), pI4_out (by omega), pL8_out (by omega), pL8_out (by omega)]; exact h2
  · by_cases e : k = y
    · rw [e]
      refine ⟨?_, ?_, ?_, ?_, ?_⟩
      · rw [rL8_o (by omega), rL8_o (by omega), rL8_o (by omega), rL8_o8 (by omega), show 32 + 28 * y = 0 + 24 + (8 + 28 * y) by omega, rL8_p (hrk.aj _ _ _ (by decide))]
      · rw [rL8_o (by omega), rL8_o (by omega), rL8_o (by omega), show 40 + 28 * y = 0 + 24 + (16 + 28 * y) by omega, rL8_p (hrk.aj _ _ _ (by decide))]
      · rw [rI4_o (by omega), rI4_o (by omega), show 48 + 28 * y = 0 + 24 + (24 + 28 * y) by omega, rI4_p r3]
      · rw [rI4_o (by omega), show 52 + 28 * y = 0 + 24 + (28 + 28 * y) by omega, rI4_p r4]
      · rw [show 56 + 28 * y = 0 + 24 + (32 + 28 * y) by omega, rI4_p r5]
    · have q := h6 k k0 (by omega)
      rw [o8 _ (by omega), o8 _ (by omega), o4 _ (by omega), o4 _ (by omega), o4 _ (by omega)]
      exact q
def mMd (o : Int) (f : Nat) (o' : Int) : Prop := mRow (o + 2) f o' ∨ (f = 202 ∧ o' = o)
theorem sp_wkrow {tv : Nat → Int} {cf : Cf} {σ : St} {o x s : Int} {Q : St → Prop} (ho : o = 0 ∨ o = 1) (hrk : RK σ) (hx : 0 ≤ x) (hc : 0 ≤ gI σ 577 x ∧ gI σ 577 x ≤ 8) (hs : gI σ 202 o = s) (hr : 0 ≤ s ∧ s < 4611686018427387904)
    (hQ : ∀ τ, knG tv σ x (gA τ 512 (o + 2)) 0 → srl (gA τ 512 (o + 2)) 0 = s + 1 → gI τ 514 (o + 2) = szK (gI σ 577 x) → gI τ 202 o = s + 1 → Fr (mMd o) σ τ → RK τ → wp_Store_room cf tv o (o + 4) (gI τ 514 (o + 2)) (fun σ_144 => RK σ_144 → wp_Writer_put cf tv (o + 4) 512 (o + 2) 0 (gI σ_144 514 (o + 2)) (fun r_145 σ_146 => rI r_145 → RK σ_146 → ∀ σ_147, σ_147 = sI σ_146 586 x r_145 → ∀ σ_148, σ_148 = sI σ_147 585 x (gI σ_147 451 (o + 4)) → ∀ σ_149, σ_149 = sI σ_148 587 x (gI σ_148 514 (o + 2)) → ∀ σ_150, σ_150 = sI σ_149 584 x 0 → ((0 : Int) ≤ gI σ_150 585 x ∧ gI σ_150 585 x < (cf.1 - 6)) ∧ ((0 : Int) ≤ gI σ_150 585 x ∧ gI σ_150 585 x < (cf.1 - 6)) ∧ ∀ σ_151, σ_151 = sA σ_150 324 o (gI σ_150 585 x) (w32 ((gA σ_150 324 o (gI σ_150 585 x)) + (gI σ_150 587 x))) → Q σ_151) σ_144) τ) : wp_Store_writeKnot cf tv o x Q σ := by
  have r2 : rowL (o + 2) = 320 := by unfold rowL; rw [if_pos (by omega)]
  generalize hcc : gI σ 577 x = c at hc
  have sz : szK c = (32 + 28 * c + 7) / 8 * 8 := rfl
  have nk : ∀ f y, 576 ≤ f → f ≤ 587 → ¬ mRow (o + 2) f y := fun f y a b q => by unfold mRow at q; omega
  unfold wp_Store_writeKnot
  refine sp_rclear (fun τ1 c1 c2 c3 f1 k1 => ?_)
  have F1 : Fr (mRow (o + 2)) σ τ1 := f1.mono (fun f o' q => ⟨by omega, q.2⟩)
  have cn1 : gI τ1 577 x = c := by rw [F1.i _ _ (nk _ _ (by decide) (by decide))]; exact hcc
  refine sp_sizeOf hx (by rw [cn1]; omega) (fun _ _ => ?_)
  rw [cn1]
  refine sp_rbegin (a := 0) k1 c2 (by omega) (by omega) (by omega) (fun τ2 d1 d2 d3 f2 k2 => ⟨hx, ?_⟩)
  have F2 := F1.tr f2
  have lv2 : gI τ2 576 x = gI σ 576 x := F2.i _ _ (nk _ _ (by decide) (by decide))
  rw [lv2]
  refine sp_rput d1 (by omega) (by omega) (by omega) (fun τ3 e3 f3 k3 _ => ?_)
  have F3 : Fr (mRow (o + 2)) σ τ3 := F2.tr (f3.mono (fun f o' q => by unfold mRb at q; exact ⟨Or.inl q.1, q.2⟩))
  have a3 : gI τ3 513 (o + 2) = 0 := by rw [f3.i _ _ (fun q => by unfold mRb at q; omega)]; exact d1
  have cn3 : gI τ3 577 x = c := by rw [F3.i _ _ (nk _ _ (by decide) (by decide))]; exact hcc
  rw [cn3]
  refine sp_rput a3 (by omega) (by omega) (by omega) (fun τ4 e4 f4 k4 _ => ?_)
  have F4 : Fr (mRow (o + 2)) σ τ4 := F3.tr (f4.mono (fun f o' q => by unfold mRb at q; exact ⟨Or.inl q.1, q.2⟩))
  have a4 : gI τ4 513 (o + 2) = 0 := by rw [f4.i _ _ (fun q => by unfold mRb at q; omega)]; exact a3
  have n4 : gI τ4 514 (o + 2) = szK c := by rw [f4.i _ _ (fun q => by unfold mRb at q; omega), f3.i _ _ (fun q => by unfold mRb at q; omega), d2]; omega
  rw [e3, d3] at e4
  generalize hg1 : gA τ1 512 (o + 2) = g1 at e4
  have E : ∀ i, i < 24 → gA τ4 512 (o + 2) i = nBeg g1 0 5 (szK c) i := fun i hi => by rw [e4, pI4_out (by omega), pI4_out (by omega)]
  have R0 : knRw σ x 0 (gA τ4 512 (o + 2)) := by
    refine ⟨⟨?_, ?_, ?_, ?_, ?_⟩, fun k k0 k1 => by omega⟩
    · rw [rI4_ext (h := nBeg g1 0 5 (szK c)) (fun i i0 i1 => E i (by omega)), hcc]
      have : rI4 (nBeg g1 0 5 (szK c)) 4 = rI4 (pI4 (fun i => if 0 ≤ i ∧ i < 0 + szK c then 0 else g1 i) (0 + 4) (szK c)) (0 + 4) := rI4_ext (fun i i0 i1 => by
        unfold nBeg upF
        rw [pI4_out (by omega), if_neg (by omega)])
      rw [this, rI4_p (by unfold rI; omega)]
    · rw [E 16 (by omega)]
      unfold nBeg upF
      rw [pI4_out (by omega), if_pos (by omega)]
      decide
    · rw [rI4_ext (h := nBeg g1 0 5 (szK c)) (fun i i0 i1 => E i (by omega))]
      show rI4 (pI4 _ (0 + 20) _) (0 + 20) = _
      rw [rI4_p (by unfold rI; omega)]
    · rw [e4, rI4_o (by omega)]
      show rI4 (pI4 _ (0 + 24 + 0) _) (0 + 24 + 0) = _
      rw [rI4_p (hrk.i _ _ (by decide))]
    · rw [e4, hcc]
      show rI4 (pI4 _ (0 + 24 + 4) _) (0 + 24 + 4) = _
      rw [rI4_p (by unfold rI; omega)]
  refine lQ1_rule (fun y τ => (0 ≤ y ∧ y ≤ c) ∧ knRw σ x y (gA τ 512 (o + 2)) ∧ gI τ 513 (o + 2) = 0 ∧ gI τ 514 (o + 2) = szK c ∧ Fr (mRow (o + 2)) σ τ ∧ RK τ) (fun y _ => (c - y).toNat) ?_ 0 τ4 ⟨by omega, R0, a4, n4, F4, k4⟩
  intro K y τ hI hK
  obtain ⟨hy, kr, at0, en0, fr, rk⟩ := hI
  have cn : gI τ 577 x = c := by rw [fr.i _ _ (nk _ _ (by decide) (by decide))]; exact hcc
  unfold wp_Store_writeKnot_L38
  rw [cn]
  refine ⟨hx, fun q => ?_, fun q => ?_⟩
  · have ey : y = c := by omega
    rw [ey] at kr
    refine sp_serial (by rw [fr.i _ _ (fun q => by unfold mRow at q; omega)]; exact hs) hr (fun τ5 s5 f5 js k5 => ?_)
    have a5 : gI τ5 513 (o + 2) = 0 := by rw [f5.i _ _ (fun q => by omega)]; exact at0
    have b5 : gA τ5 512 (o + 2) = gA τ 512 (o + 2) := f5.a _ _ (fun q => by omega)
    obtain ⟨⟨h1, h2, h3, h4, h5⟩, h6⟩ := kr
    rw [hcc] at h1
    refine sp_rclose (n := szK c) a5 (by omega) (by rw [b5]; exact h1) (by omega) (by omega) (fun τ6 b6 f6 k6 k6' => ?_)
    rw [b5] at b6
    generalize hg : gA τ 512 (o + 2) = g at *
    have r : ∀ k, 20 ≤ k → rI4 (gA τ6 512 (o + 2)) k = rI4 g k := fun k k0 => rI4_ext (fun i i0 i1 => by rw [b6]; exact nCls_out (by omega))
    have r8 : ∀ k, 20 ≤ k → rL8 (gA τ6 512 (o + 2)) k = rL8 g k := fun k k0 => rL8_ext (fun i i0 i1 => by rw [b6]; exact nCls_out (by omega))
    refine hQ τ6 ⟨?_, ?_, ?_, ?_, fun k k0 k1 => ?_⟩ ?_ ?_ ?_ ?_ k6
    · rw [hcc, b6]; exact whN_cls ⟨by omega, by omega⟩ h1 h3
    · rw [b6, nCls_out (by omega)]; exact h2
    · rw [r _ (by omega)]; exact h4
    · rw [r _ (by omega)]; exact h5
    · rw [hcc] at k1
      rw [r8 _ (by omega), r8 _ (by omega), r _ (by omega), r _ (by omega), r _ (by omega), Int.zero_add, Int.zero_add, Int.zero_add, Int.zero_add, Int.zero_add]
      exact h6 k k0 k1
    · show rL8 (gA τ6 512 (o + 2)) (0 + 8) = s + 1
      rw [b6]
      have : rL8 (nCls tv g 0 (s + 1) 1 (szK c)) (0 + 8) = rL8 (pL8 g (0 + 8) (s + 1)) (0 + 8) := rL8_ext (fun i i0 i1 => by
        unfold nCls nSer upF
        rw [pI4_out (by omega), if_neg (by omega)])
      rw [this, rL8_p js]
    · rw [f6.i _ _ (fun q => by unfold mRb at q; omega), f5.i _ _ (fun q => by omega), hcc]; exact en0
    · rw [f6.i _ _ (fun q => by unfold mRb at q; omega)]; exact s5
    · refine ((fr.mono (fun f o' q => Or.inl q)).tr (f5.mono (fun f o' q => Or.inr q))).tr (f6.mono (fun f o' q => ?_))
      unfold mRb at q; exact Or.inl ⟨Or.inl q.1, q.2⟩
  · have ylt : y < c := by omega
    have ka : ∀ f, 576 ≤ f → f ≤ 587 → ∀ z, gA τ f z = gA σ f z := fun f a b z => fr.a _ _ (nk f z a b)
    refine ⟨by omega, fun y3 e3 => ⟨by omega, ?_⟩⟩
    rw [ka _ (by decide) (by decide)] at e3
    rw [ka _ (by decide) (by decide)]
    rw [w32_id (x := 28 * y) (by unfold rI; omega), w32_id (x := 8 + 28 * y) (by unfold rI; omega), w32_id (x := 16 + 28 * y) (by unfold rI; omega), w32_id (x := 24 + 28 * y) (by unfold rI; omega)]
    have be3 : y3 = be σ x y := e3
    have r3 : rI (oN σ x y) := by
      unfold oN
      split
      · exact hrk.ai _ _ _ (by decide)
      · exact hrk.i _ _ (by decide)
    have r4 : rI (oP σ x y) := by
      unfold oP
      split
      · exact hrk.ai _ _ _ (by decide)
      · exact hrk.i _ _ (by decide)
    have r5 : rI (oZ σ x y) := by
      unfold oZ
      split
      · exact hrk.ai _ _ _ (by decide)
      · exact hrk.i _ _ (by decide)
    have rb : ∀ {a b : St}, Fr (mRb (o + 2)) a b → Fr (mRow (o + 2)) a b := fun f => f.mono (fun f o' q => by unfold mRb at q; exact ⟨Or.inl q.1, q.2⟩)
    have rt : ∀ {a b : St}, Fr (mRb (o + 2)) a b → gI b 513 (o + 2) = gI a 513 (o + 2) := fun f => f.i _ _ (fun q => by unfold mRb at q; omega)
    refine sp_rputL at0 (by omega) (by omega) (by omega) (fun τ5 e5 f5 _ _ => ⟨by omega, ?_⟩)
    have F5 := fr.tr (rb f5)
    rw [F5.a 579 x (nk _ _ (by decide) (by decide))]
    have at5 : gI τ5 513 (o + 2) = 0 := (rt f5).trans at0
    refine sp_rputL at5 (by omega) (by omega) (by omega) (fun τ6 e6 f6 _ _ => ?_)
    have F6 := F5.tr (rb f6)
    have at6 : gI τ6 513 (o + 2) = 0 := (rt f6).trans at5
    rw [e5] at e6
    -- the last three
    have b172 : ∀ (τ8 : St) (t0 : Int), t0 = oZ σ x y → Fr (mRow (o + 2)) σ τ8 → RK τ8 → gI τ8 513 (o + 2) = 0 → gI τ8 514 (o + 2) = szK c → gA τ8 512 (o + 2) = pI4 (pI4 (pL8 (pL8 (gA τ 512 (o + 2)) (0 + 24 + (8 + 28 * y)) (gA σ 578 x y)) (0 + 24 + (16 + 28 * y)) (gA σ 579 x y)) (0 + 24 + (24 + 28 * y)) (oN σ x y)) (0 + 24 + (28 + 28 * y)) (oP σ x y) → wp_Store_writeKnot_b172 cf tv o x Q K y t0 (w32 (32 + 28 * y)) τ8 := by
      intro τ8 t0 h0 F8 _ at8 en8 b8
      unfold wp_Store_writeKnot_b172
      rw [w32_id (by unfold rI; omega), h0]
      refine sp_rput at8 (by omega) (by omega) (by omega) (fun τ9 e9 f9 k9 _ y' ey => ?_)
      rw [w32_id (by unfold rI; omega)] at ey
      rw [ey]
      rw [b8] at e9
      refine hK _ _ ⟨by omega, by rw [e9]; exact kr.nx hrk hy.1 r3 r4 r5, (rt f9).trans at8, ?_, F8.tr (rb f9), k9⟩ (by omega)
      rw [f9.i _ _ (fun q => by unfold mRb at q; omega)]; exact en8
    have b145 : ∀ (τ7 : St) (t0 : Int), t0 = oP σ x y → Fr (mRow (o + 2)) σ τ7 → gI τ7 513 (o + 2) = 0 → gI τ7 514 (o + 2) = szK c → gA τ7 512 (o + 2) = pI4 (pL8 (pL8 (gA τ 512 (o + 2)) (0 + 24 + (8 + 28 * y)) (gA σ 578 x y)) (0 + 24 + (16 + 28 * y)) (gA σ 579 x y)) (0 + 24 + (24 + 28 * y)) (oN σ x y) → wp_Store_writeKnot_b145 cf tv o x Q K y y3 t0 (w32 (28 + 28 * y)) τ7 := by
      intro τ7 t0 h0 F7 at7 en7 b7
      unfold wp_Store_writeKnot_b145
      rw [w32_id (x := 28 + 28 * y) (by unfold rI; omega), h0]
      refine sp_rput at7 (by omega) (by omega) (by omega) (fun τ8 e8 f8 k8 _ => ?_)
      have F8 := F7.tr (rb f8)
      have en8 : gI τ8 514 (o + 2) = szK c := by rw [f8.i _ _ (fun q => by unfold mRb at q; omega)]; exact en7
      rw [b7] at e8
      rw [w32_id (x := 28 * y) (by unfold rI; omega)]
      refine ⟨fun z => ⟨by omega, b172 τ8 _ ?_ F8 k8 ((rt f8).trans at7) en8 e8⟩, fun z => ⟨hx, by omega, b172 τ8 _ ?_ F8 k8 ((rt f8).trans at7) en8 e8⟩⟩
      · rw [F8.i _ _ (nk _ _ (by decide) (by decide)), be3]; unfold oZ; rw [if_neg (by rw [← be3]; exact z)]
      · rw [F8.a _ _ (nk _ _ (by decide) (by decide))]; unfold oZ; rw [if_pos (by rw [← be3]; exact z)]
    have b118 : ∀ (t0 : Int), t0 = oN σ x y → wp_Store_writeKnot_b118 cf tv o x Q K y y3 t0 (24 + 28 * y) τ6 := by
      intro t0 h0
      unfold wp_Store_writeKnot_b118
      rw [h0]
      refine sp_rput at6 (by omega) (by omega) (by omega) (fun τ7 e7 f7 k7 _ => ?_)
      have F7 := F6.tr (rb f7)
      have en7 : gI τ7 514 (o + 2) = szK c := by rw [f7.i _ _ (fun q => by unfold mRb at q; omega), f6.i _ _ (fun q => by unfold mRb at q; omega), f5.i _ _ (fun q => by unfold mRb at q; omega)]; exact en0
      rw [e6] at e7
      rw [w32_id (x := 28 * y) (by unfold rI; omega)]
      refine ⟨fun z => ⟨by omega, b145 τ7 _ ?_ F7 ((rt f7).trans at6) en7 e7⟩, fun z => ⟨hx, by omega, b145 τ7 _ ?_ F7 ((rt f7).trans at6) en7 e7⟩⟩
      · rw [F7.i _ _ (nk _ _ (by decide) (by decide)), be3]; unfold oP; rw [if_neg (by rw [← be3]; exact z)]
      · rw [F7.a _ _ (nk _ _ (by decide) (by decide))]; unfold oP; rw [if_pos (by rw [← be3]; exact z)]
    refine ⟨fun z => ⟨by omega, b118 _ ?_⟩, fun z => ⟨by omega, b118 _ ?_⟩⟩
    · rw [F6.i _ _ (nk _ _ (by decide) (by decide)), be3]; unfold oN; rw [if_neg (by rw [← be3]; exact z)]
    · rw [F6.a _ _ (nk _ _ (by decide) (by decide))]; unfold oN; rw [if_pos (by rw [← be3]; exact z)]
