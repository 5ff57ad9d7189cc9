/-! Store.bud whole -/
def mBu (f : Nat) (o' : Int) : Prop := mSy f o' ∨ mMr f o' ∨ mBq f o'
theorem sp_budP {tv : Nat → Int} {cf : Cf} {σ : St} {dk : Int → Int} {db : Int → Int → Int} {B : Int} {r : RT} {L : List (Int × Int × Int × Int × Int × Int)} {S' : List (Int × Int × Int × (Int → Int)) × Int} {W : List (Int × (List (Int × Int × Int × (Int → Int)) × Int))} {Q : St → Prop} (hc : CfOK cf) (h : PR tv cf σ dk db L S' W r B) (hrom : rom cf σ (whl cf + 1) (2 * whl cf + 2)) (hB : B + 49369 < 1073741000)
    (hQ : ∀ τ dk' db' L', PB tv cf τ dk' db' L' (AM db' L', gI τ 203 0) [] r (B + 49369) → AM db' L' = AM db L → rom cf τ (whl cf + 1) (2 * whl cf + 2) → gI τ 452 0 = 0 → Fr mBu σ τ → RK τ → Q τ) : wp_Store_bud cf tv 0 Q σ := by
  have hR : 0 ≤ cf.2.2 ∧ cf.2.2 ≤ 4 := hc.2.2
  have wr := whl_r hc
  -- behind the commit
  have b24 : ∀ ρ dk1 db1 L1 B1 S1, PR tv cf ρ dk1 db1 L1 S1 [] r B1 → B1 ≤ B + 408 → AM db1 L1 = AM db L → gI ρ 451 0 = -1 → rom cf ρ (whl cf + 1) (2 * whl cf + 2) → gI ρ 211 0 ≤ 3 → Fr mBu σ ρ → wp_Store_bud_b24 cf tv 0 Q ρ := by
    intro ρ dk1 db1 L1 B1 S1 p1 hB1 am1 n1 rm1 bc1 fr1
    unfold wp_Store_bud_b24
    refine sp_makeRoomP hc p1 n1 rm1 (by omega) (fun τ dk2 db2 L2 p2 am2 n2 e2 r2 bc2 fr2 k2 _ => ?_)
    have b0 : 0 ≤ gI ρ 211 0 := by
      obtain ⟨⟨σc, l, z, c, lg, lr, sv, nx, tn, tp, bl, s, s', b0, V, jn, sJ, hI, -, -, -, -, hBD, -⟩, -⟩ := p1
      exact hBD.1
    refine sp_bud2 hc p2 n2 (by omega) (by omega) (by omega) (fun υ dk3 db3 k p3 am3 pl3 ku kr u3 x3 fr3 k3 => ?_)
    have le : AM db2 L2 = AM db3 L2 := am3.symm
    obtain ⟨p3a, p3b, p3c⟩ := p3
    have p3b' : (AM db2 L2, gI τ 203 0) = (AM db3 L2, gI υ 203 0) := p3b
    have hle : B1 + 48960 + 1 ≤ B + 49369 := by omega
    have p4 : PB tv cf υ dk3 db3 L2 (AM db3 L2, gI υ 203 0) [] r (B + 49369) := by
      rw [p3b'] at p3a
      obtain ⟨σc, l, z, c, lg, lr, sv, nx, tn, tp, bl, s, s', b0, V, jn, sJ, ⟨i1, i2, i3, i4, i5, i6, i7⟩, ⟨hD, hb0⟩, hO, hFX, hJ, hBD, hlo, ⟨hcB, hsB, hsJ, hsd⟩, hV, hHD, hXO⟩ := p3a
      exact ⟨⟨σc, l, z, c, lg, lr, sv, nx, tn, tp, bl, s, s', b0, V, jn, sJ, ⟨i1, i2, i3, i4, i5, by omega, i7⟩, ⟨hD.le hle (by omega), hb0⟩, hO, hFX, hJ, hBD, hlo, ⟨by omega, by omega, hsJ, hsd⟩, hV, hHD, hXO⟩, rfl, p3c⟩
    have ne : ∀ i : Int, 0 ≤ i → i < ((cf.1 - 6).toNat : Int) → i ≠ k → gA υ 323 0 i = gA τ 323 0 i ∧ gA υ 325 0 i = gA τ 325 0 i := fun i _ _ ne => by
      rw [u3, x3]; unfold upF; rw [if_neg ne, if_neg ne]; exact ⟨rfl, rfl⟩
    have ke : gA υ 323 0 k = 2 ∧ gA υ 325 0 k = 0 := by
      rw [u3, x3]; unfold upF; rw [if_pos rfl, if_pos rfl]; exact ⟨rfl, rfl⟩
    have a1 := cnt_dec (p := fun i => 4 + cf.2.2 ≤ i ∧ gA τ 323 0 i = 0) (q := fun i => 4 + cf.2.2 ≤ i ∧ gA υ 323 0 i = 0) (k := k) (cf.1 - 6).toNat (fun i i0 i1 w => by rw [(ne i i0 i1 w).1]) ⟨kr.1, ku⟩ (fun q => by rw [ke.1] at q; omega) (by omega) (by omega)
    have a2 := cnt_dec (p := fun i => 4 + cf.2.2 ≤ i ∧ (gA τ 323 0 i = 0 ∨ gA τ 325 0 i ≠ 0)) (q := fun i => 4 + cf.2.2 ≤ i ∧ (gA υ 323 0 i = 0 ∨ gA υ 325 0 i ≠ 0)) (k := k) (cf.1 - 6).toNat (fun i i0 i1 w => by rw [(ne i i0 i1 w).1, (ne i i0 i1 w).2]) ⟨kr.1, Or.inl ku⟩ (fun q => by rw [ke.1, ke.2] at q; omega) (by omega) (by omega)
    refine hQ υ dk3 db3 L2 p4 ((am3.trans am2).trans am1) ⟨?_, ?_⟩ pl3 ((fr1.tr (fr2.mono (fun f o' q => Or.inr (Or.inl q)))).tr (fr3.mono (fun f o' q => Or.inr (Or.inr q)))) k3
    · unfold emp at e2 ⊢; omega
    · unfold rmy at r2 ⊢; omega
  unfold wp_Store_bud
  refine sp_syncP hc h (fun τ dk1 db1 p1 am1 fl1 pl1 fr1 k1 _ σ24 e24 => ?_)
  have rk24 : RK σ24 := by rw [e24]; exact k1.sI (by show rI (-1); unfold rI; omega)
  have p24 := p1.unh hc fl1 e24 rk24
  have f24 : Fr (fun f o' => f = 451 ∧ o' = 0) τ σ24 := by rw [e24]; exact (Fr.rf _ _).sI ⟨rfl, rfl⟩
  have n24 : gI σ24 451 0 = -1 := by rw [e24, gI_sI1]
  have F24 : Fr mBu σ σ24 := (fr1.mono (fun f o' q => Or.inl q)).tr (f24.mono (fun f o' q => Or.inr (Or.inr (Or.inr (Or.inr ⟨Or.inl q.1, q.2⟩)))))
  have us : gA σ24 323 0 = gA σ 323 0 := by
    rw [f24.a _ _ (fun q => by omega)]
    exact fr1.a _ _ (fun q => by unfold mSy mWr mBw at q; omega)
  have ox : gA σ24 325 0 = gA σ 325 0 := by
    rw [f24.a _ _ (fun q => by omega)]
    exact fr1.a _ _ (fun q => by unfold mSy mWr mBw at q; omega)
  have rm24 : rom cf σ24 (whl cf + 1) (2 * whl cf + 2) := by unfold rom; rw [us, ox]; exact hrom
  have bc4 : gI σ24 211 0 ≤ 4 := by
    obtain ⟨⟨σc, l, z, c, lg, lr, sv, nx, tn, tp, bl, s, s', b0, V, jn, sJ, hI, -, hO, -⟩, -⟩ := p24
    exact hO.2.2.2.2.2.1.1.2
  have hB0 : 0 ≤ B := (PR.v h.1).2.2
  refine ⟨fun q => b24 σ24 dk1 db1 L B _ p24 (by omega) am1 n24 rm24 (by omega) F24, fun q => ?_⟩
  refine sp_commitAllP hc p24 rm24 (fun w => absurd n24 w) (by omega) (fun υ dk2 db2 p2 am2 rm2 v2 bc2 fr2 k2 _ => ?_)
  exact b24 υ dk2 db2 L (B + 408) _ p2 (Int.le_refl _) (am2.trans am1) (by rw [fr2.i _ _ (fun q => by unfold mCw mCf mCm mEc mTb mWt mMd mRow mRm mWc mSf mWr mMl mBw mMv mBh mBg mIx mB2 mWr mMl mBw mMv mRow at q; omega)]; exact n24) rm2 (by rw [bc2 n24]; omega) (F24.tr (fr2.mono (fun f o' q => Or.inr (Or.inl (Or.inr (Or.inl q))))))
