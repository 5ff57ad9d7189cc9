/-! House.hand: a group is handed over, and what it tells is so -/
def mHd (f : Nat) (o' : Int) : Prop := mCf f o' ∨ mBu f o' ∨ mJr f o'
/-- where the group goes: behind the others (p0, W0), or into a new bud -/
def TKo (cf : Cf) (σ : St) (e : Int) (Sm S' : List (Int × Int × Int × (Int → Int)) × Int) (W : List (Int × (List (Int × Int × Int × (Int → Int)) × Int))) (p0 : Int) (S0 : List (Int × Int × Int × (Int → Int)) × Int) (W0 : List (Int × (List (Int × Int × Int × (Int → Int)) × Int))) : Prop := (gI σ 451 0 ≠ -1 ∧ gI σ 452 0 + e ≤ (cf.2.1 - 2) * 128 ∧ p0 = gI σ 452 0 ∧ S0 = S' ∧ W0 = W) ∨ ((gI σ 451 0 = -1 ∨ (cf.2.1 - 2) * 128 < gI σ 452 0 + e) ∧ p0 = 0 ∧ S0 = Sm ∧ W0 = [])
/-- what of it is safe -/
def SFo (p1 : Int) (W1 : List (Int × (List (Int × Int × Int × (Int → Int)) × Int))) (k : Nat) : Prop := k ≤ W1.length ∧ (∀ x, x ∈ W1.take k → x.1 ≤ p1 / 128 * 128) ∧ (∀ x, x ∈ W1.drop k → p1 / 128 * 128 < x.1) ∧ (W1.drop k).length ≤ 4
theorem sp_Shand {tv : Nat → Int} {cf : Cf} {σ : St} {dk : Int → Int} {db : Int → Int → Int} {B e : Int} {r : RT} {L : List (Int × Int × Int × Int × Int × Int)} {S' S2 : List (Int × Int × Int × (Int → Int)) × Int} {W : List (Int × (List (Int × Int × Int × (Int → Int)) × Int))} {u : List Int} {Q : St → Prop} (hc : CfOK cf) (h : PX tv cf σ dk db L S' W r B) (hB : B + 49772 < 1073741000) (he : gI σ 514 6 = e) (he2 : e ≤ 508) (hg : gB (gA σ 512 6) u 0 (AM db L, gI σ 203 0) e S2)
    (hQ : ∀ υ τ dk' db' L' p0 S0 W0 k, TKo cf σ e (AM db L, gI σ 203 0) S' W p0 S0 W0 → gI υ 451 0 ≠ -1 → gI υ 452 0 = p0 → PG tv cf τ dk' db' L' (laS S0 ((W0 ++ [(p0 + e, S2)]).take k)) ((W0 ++ [(p0 + e, S2)]).drop k) r (B + 49772) → AM db' L' = AM db L → rom cf τ (whl cf + 1) (2 * whl cf + 2) → HNo tv cf υ τ dk' db' u (AM db L, gI σ 203 0) e S2 (W0 ++ [(p0 + e, S2)]) k → (∀ x, x ∈ L' → gA τ 323 0 x.2.2.1 ≠ 0) → Fr mHd σ τ → RK τ → Q τ) : wp_Store_hand cf tv 0 6 Q σ := by
  have hP : 8 ≤ cf.2.1 ∧ cf.2.1 ≤ 32 := hc.2.1
  have gl := gB_le hg
  unfold wp_Store_hand
  refine sp_finishX hc h (by omega) (fun τ dk1 db1 p1 rm1 am1 fr1 k1 _ => ?_)
  have row1 : gI τ 514 6 = gI σ 514 6 ∧ gA τ 512 6 = gA σ 512 6 := ⟨fr1.i _ _ (fun q => by unfold mCf mCm mEc mTb mWt mMd mRow mRm mWc mSf mWr mMl mBw mMv at q; omega), fr1.a _ _ (fun q => by unfold mCf mCm mEc mTb mWt mMd mRow mRm mWc mSf mWr mMl mBw mMv at q; omega)⟩
  have wn : gI τ 451 0 = gI σ 451 0 := fr1.i _ _ (fun q => by unfold mCf mCm mEc mTb mWt mMd mRow mRm mWc mSf mWr mMl mBw mMv at q; omega)
  have wp : gI τ 452 0 = gI σ 452 0 := fr1.i _ _ (fun q => by unfold mCf mCm mEc mTb mWt mMd mRow mRm mWc mSf mWr mMl mBw mMv at q; omega)
  have nx1 : gI τ 203 0 = gI σ 203 0 := fr1.i _ _ (fun q => by unfold mCf mCm mEc mTb mWt mMd mRow mRm mWc mSf mWr mMl mBw mMv at q; omega)
  have la1 := p1.2
  rw [am1, nx1] at la1
  rw [row1.1, he]
  obtain ⟨S1, -, -⟩ := PR.cm p1.1
  have hB0 : 0 ≤ B + 402 := (PR.v p1.1).2.2
  -- the second half
  have fin : ∀ υ dk2 db2 L2 S0 W0 B2 p0, PB tv cf υ dk2 db2 L2 S0 W0 r B2 → B2 + 1 ≤ B + 49772 → AM db2 L2 = AM db L → gI υ 203 0 = gI σ 203 0 → rom cf υ (whl cf + 1) (2 * whl cf + 2) → gI υ 452 0 = p0 → p0 + e ≤ (cf.2.1 - 2) * 128 → TKo cf σ e (AM db L, gI σ 203 0) S' W p0 S0 W0 → Fr mHd σ υ → gI υ 514 6 = e → gA υ 512 6 = gA σ 512 6 → wp_Store_hand_b22 cf tv 0 6 Q υ := by
    intro υ dk2 db2 L2 S0 W0 B2 p0 pb hB2 am2 nx2 rm2 pl2 tk2 tko fr2 en2 by2
    have nn := pb.2.2
    refine sp_hand2 hc pb (by omega) en2 (by omega) (by rw [by2, am2, nx2]; exact hg) (by rw [pl2]; exact tk2) (fun ω dk3 db3 k pg am3 hn fr3 k3 => ?_)
    rw [pl2] at pg hn
    rw [am2, nx2] at hn
    have us : gA ω 323 0 = gA υ 323 0 := fr3.a _ _ (fun q => by have q := mJr_n q; unfold mBw mRow at q; omega)
    have ox : gA ω 325 0 = gA υ 325 0 := fr3.a _ _ (fun q => by have q := mJr_n q; unfold mBw mRow at q; omega)
    obtain ⟨S3, -, -⟩ := PR.cm pg
    obtain ⟨σc, l, z, c, lg, lr, sv, nx, tn, tp, bl, s, s', b0, V, jn, sJ, ⟨i1, i2, i3, i4, i5, i6, i7⟩, ⟨hD, hb0⟩, hO, hFX, hJ, hBD, hlo, ⟨hcB, hsB, hsJ, hsd⟩, hV, hHD, hXO⟩ := pg
    exact hQ υ ω dk3 db3 L2 p0 S0 W0 k tko nn pl2 ⟨σc, l, z, c, lg, lr, sv, nx, tn, tp, bl, s, s', b0, V, jn, sJ, ⟨i1, i2, i3, i4, i5, by omega, i7⟩, ⟨hD.le hB2 (by omega), hb0⟩, hO, hFX, hJ, hBD, hlo, ⟨by omega, by omega, hsJ, hsd⟩, hV, hHD, hXO⟩ (am3.trans am2) (by unfold rom; rw [us, ox]; exact rm2) hn (fun x hx => (S3.used hc hx).1) (fr2.tr (fr3.mono (fun f o' q => Or.inr (Or.inr q)))) k3
  have pr : gI τ 451 0 ≠ -1 → 0 ≤ gI τ 452 0 ∧ gI τ 452 0 ≤ 4096 := fun q => by
    have := (S1.rn (w := 0) (Or.inl rfl) q).2.1
    omega
  refine sp_takes pr ⟨by omega, by omega⟩ (fun q1 q2 _ _ => ⟨fun _ => ?_, fun q => absurd q (by decide)⟩) (fun q1 _ _ => ⟨fun q => absurd rfl q, fun _ => ?_⟩)
  · exact fin τ dk1 db1 L S' W (B + 402) _ (p1.pb q1) (by omega) am1 nx1 rm1 rfl q2 (Or.inl ⟨by rw [← wn]; exact q1, by rw [← wp]; exact q2, wp, rfl, rfl⟩) (fr1.mono (fun f o' q => Or.inl q)) (row1.1.trans he) row1.2
  · refine sp_budP hc p1 rm1 (by omega) (fun υ dk2 db2 L2 pb am2 rm2 pl2 fr2 k2 _ => ?_)
    have nx2 : gI υ 203 0 = gI τ 203 0 := by
      refine fr2.i _ _ (fun q => ?_)
      rcases q with q | (q | q | q) | q
      · unfold mSy mWr mBw at q; omega
      · have q := mCs_n q; unfold mBw mMv mIx mRd2 mPg mRow at q; omega
      · unfold mCw mCf mCm mEc mTb mWt mMd mRow mRm mWc mSf mWr mMl mBw mMv mBh mBg mIx mB2 mWr mMl mBw mMv mRow at q; omega
      · omega
      · have q := mBq_n q; unfold mBw mMv mRow at q; omega
    have r6 : ∀ g, (g = 514 ∨ g = 512) → gI υ g 6 = gI τ g 6 ∧ gA υ g 6 = gA τ g 6 := fun g hg => by
      have nq : ¬ mBu g 6 := fun q => by
        rcases q with q | (q | q | q) | q
        · unfold mSy mWr mBw at q; omega
        · have q := mCs_n q; unfold mBw mMv mIx mRd2 mPg mRow at q; omega
        · unfold mCw mCf mCm mEc mTb mWt mMd mRow mRm mWc mSf mWr mMl mBw mMv mBh mBg mIx mB2 mWr mMl mBw mMv mRow at q; omega
        · omega
        · have q := mBq_n q; unfold mBw mMv mRow at q; omega
      exact ⟨fr2.i _ _ nq, fr2.a _ _ nq⟩
    have la2 : laS (AM db2 L2, gI υ 203 0) [] = (AM db2 L2, gI υ 203 0) := rfl
    refine fin υ dk2 db2 L2 _ [] (B + 402 + 49369) 0 pb (by omega) (am2.trans am1) (nx2.trans nx1) rm2 pl2 (by omega) (Or.inr ⟨by rw [← wn, ← wp]; exact q1, rfl, by rw [am2, am1, nx2, nx1], rfl⟩) ((fr1.mono (fun f o' q => Or.inl q)).tr (fr2.mono (fun f o' q => Or.inr (Or.inl q)))) ((r6 _ (Or.inl rfl)).1.trans (row1.1.trans he)) ((r6 _ (Or.inr rfl)).2.trans row1.2)
