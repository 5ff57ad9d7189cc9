/-! the table's row -/
/-- a table of what is live -/
def tbG (tv : Nat → Int) (cf : Cf) (u : Int → Int) (g : Int → Int) (p : Int) : Prop := whN tv g p (tbl cf) ∧ g (p + 16) = 10 ∧ ∀ m, 4 + cf.2.2 ≤ m → m < cf.1 - 6 → rI4 g (p + (24 + 4 * (m - (4 + cf.2.2)))) = u m
/-- its first places told -/
def tbR (cf : Cf) (u : Int → Int) (y : Int) (g : Int → Int) : Prop := (rI4 g 4 = tbl cf ∧ g 16 = 10 ∧ rI4 g 20 = 1414677829) ∧ ∀ m, 4 + cf.2.2 ≤ m → m < y → rI4 g (24 + 4 * (m - (4 + cf.2.2))) = u m
theorem tbG.v {tv : Nat → Int} {cf : Cf} {u : Int → Int} {g : Int → Int} {p : Int} (hc : CfOK cf) (h : tbG tv cf u g p) : ndV tv g p (tbl cf) := by
  have := tbl_r hc
  exact ⟨h.1, by omega, fun q => by have := h.2.1; omega⟩
theorem sp_tbrow {tv : Nat → Int} {cf : Cf} {σ : St} {o s : Int} {u : Int → Int} {Q : St → Prop} (hC : CfOK cf) (ho : o = 0 ∨ o = 1) (hrk : RK σ) (hs : gI σ 202 o = s) (hr : 0 ≤ s ∧ s < 4611686018427387904) (hz : gI σ 216 o = tbl cf) (hu : gA σ 324 o = u)
    (hQ : ∀ τ, tbG tv cf u (gA τ 512 (o + 2)) 0 → srl (gA τ 512 (o + 2)) 0 = s + 1 → gI τ 202 o = s + 1 → Fr (mMd o) σ τ → RK τ → wp_Writer_put cf tv (o + 4) 512 (o + 2) 0 (gI τ 216 o) (fun r_26 σ_27 => rI r_26 → RK σ_27 → ∀ σ_28, σ_28 = sI σ_27 215 o r_26 → Q σ_28) τ) : wp_Row_clear cf tv (o + 2) (fun σ_38 => RK σ_38 → wp_Row_begin cf tv (o + 2) 10 (gI σ_38 216 o) (fun σ_40 => RK σ_40 → ∀ y1_41, y1_41 = (4 + cf.2.2) → lQ1 (wp_Store_writeTable_L106 cf tv o Q) y1_41 σ_40) σ_38) σ := by
  have hB : 24 ≤ cf.1 ∧ cf.1 ≤ 64 := hC.1
  have hR : 0 ≤ cf.2.2 ∧ cf.2.2 ≤ 4 := hC.2.2
  have r2 : rowL (o + 2) = 320 := by unfold rowL; rw [if_pos (by omega)]
  have tr := tbl_r hC
  have td : tbl cf = (24 + 4 * (cf.1 - 10 - cf.2.2) + 7) / 8 * 8 := rfl
  refine sp_rclear (fun τ1 c1 c2 c3 f1 k1 => ?_)
  have F1 : Fr (mRow (o + 2)) σ τ1 := f1.mono (fun f o' q => ⟨by omega, q.2⟩)
  have z1 : gI τ1 216 o = tbl cf := by rw [F1.i _ _ (fun q => by unfold mRow at q; omega)]; exact hz
  rw [z1]
  refine sp_rbegin (a := 0) k1 c2 (by omega) (by omega) (by omega) (fun τ2 d1 d2 d3 f2 k2 y ey => ?_)
  rw [ey]
  have F2 := F1.tr f2
  generalize hg1 : gA τ1 512 (o + 2) = g1 at d3
  have R0 : tbR cf u (4 + cf.2.2) (gA τ2 512 (o + 2)) := by
    rw [d3]
    refine ⟨⟨?_, ?_, ?_⟩, fun k k0 k1 => by omega⟩
    · have : rI4 (nBeg g1 0 10 (tbl cf)) 4 = rI4 (pI4 (fun i => if 0 ≤ i ∧ i < 0 + tbl cf then 0 else g1 i) (0 + 4) (tbl cf)) (0 + 4) := rI4_ext (fun i i0 i1 => by
        unfold nBeg upF
        rw [pI4_out (by omega), if_neg (by omega)])
      rw [this, rI4_p (by unfold rI; omega)]
    · unfold nBeg upF
      rw [pI4_out (by omega), if_pos (by omega)]
      decide
    · show rI4 (pI4 _ (0 + 20) _) (0 + 20) = _
      rw [rI4_p (by unfold rI; omega)]
  refine lQ1_rule (fun y τ => (4 + cf.2.2 ≤ y ∧ y ≤ cf.1 - 6) ∧ tbR cf u y (gA τ 512 (o + 2)) ∧ gI τ 513 (o + 2) = 0 ∧ Fr (mRow (o + 2)) σ τ ∧ RK τ) (fun y _ => (cf.1 - 6 - y).toNat) ?_ _ τ2 ⟨by omega, R0, d1, F2, k2⟩
  intro K y τ hI hK
  obtain ⟨hy, ⟨⟨h1, h2, h3⟩, h6⟩, at0, fr, rk⟩ := hI
  unfold wp_Store_writeTable_L106
  refine ⟨fun q => ?_, fun q => ⟨by omega, ?_⟩⟩
  · have ey : y = cf.1 - 6 := by omega
    rw [ey] at h6
    refine sp_serial (by rw [fr.i _ _ (fun q => by unfold mRow at q; omega)]; exact hs) hr (fun τ5 s5 f5 js k5 => ?_)
    have a5 : gI τ5 513 (o + 2) = 0 := by rw [f5.i _ _ (fun q => by omega)]; exact at0
    have b5 : gA τ5 512 (o + 2) = gA τ 512 (o + 2) := f5.a _ _ (fun q => by omega)
    refine sp_rclose (n := tbl cf) a5 (by omega) (by rw [b5]; exact h1) (by omega) (by omega) (fun τ6 b6 f6 k6 _ => ?_)
    rw [b5] at b6
    generalize hg : gA τ 512 (o + 2) = g at *
    have r : ∀ k, 20 ≤ k → rI4 (gA τ6 512 (o + 2)) k = rI4 g k := fun k k0 => rI4_ext (fun i i0 i1 => by rw [b6]; exact nCls_out (by omega))
    refine hQ τ6 ⟨?_, ?_, fun m m0 m1 => ?_⟩ ?_ ?_ ?_ k6
    · rw [b6]; exact whN_cls ⟨by omega, by omega⟩ h1 h3
    · rw [b6, nCls_out (by omega)]; exact h2
    · rw [Int.zero_add, r _ (by omega)]; exact h6 m m0 m1
    · show rL8 (gA τ6 512 (o + 2)) (0 + 8) = s + 1
      rw [b6]
      have : rL8 (nCls tv g 0 (s + 1) 1 (tbl cf)) (0 + 8) = rL8 (pL8 g (0 + 8) (s + 1)) (0 + 8) := rL8_ext (fun i i0 i1 => by
        unfold nCls nSer upF
        rw [pI4_out (by omega), if_neg (by omega)])
      rw [this, rL8_p js]
    · rw [f6.i _ _ (fun q => by unfold mRb at q; omega)]; exact s5
    · refine ((fr.mono (fun f o' q => Or.inl q)).tr (f5.mono (fun f o' q => Or.inr q))).tr (f6.mono (fun f o' q => ?_))
      unfold mRb at q; exact Or.inl ⟨Or.inl q.1, q.2⟩
  · have lu : gA τ 324 o y = u y := by rw [fr.a 324 o (fun q => by unfold mRow at q; omega), hu]
    have ru : rI (u y) := by rw [← hu]; exact hrk.ai _ _ _ (by decide)
    rw [lu, w32_id (x := y - (4 + cf.2.2)) (by unfold rI; omega), w32_id (x := 4 * (y - (4 + cf.2.2))) (by unfold rI; omega)]
    refine sp_rput at0 (by omega) (by omega) (by omega) (fun τ5 e5 f5 k5 _ y' ey' => ?_)
    rw [w32_id (by unfold rI; omega)] at ey'
    rw [ey']
    refine hK _ _ ⟨by omega, ?_, by rw [f5.i _ _ (fun q => by unfold mRb at q; omega)]; exact at0, fr.tr (f5.mono (fun f o' q => by unfold mRb at q; exact ⟨Or.inl q.1, q.2⟩)), k5⟩ (by omega)
    rw [e5]
    refine ⟨⟨?_, ?_, ?_⟩, fun m m0 m1 => ?_⟩
    · rw [rI4_o (by omega)]; exact h1
    · rw [pI4_out (by omega)]; exact h2
    · rw [rI4_o (by omega)]; exact h3
    · by_cases e : m = y
      · rw [e, show 24 + 4 * (y - (4 + cf.2.2)) = 0 + 24 + 4 * (y - (4 + cf.2.2)) by omega, rI4_p ru]
      · rw [rI4_o (by omega)]; exact h6 m m0 (by omega)
