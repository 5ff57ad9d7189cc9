/-! what the store's steps touch: the store's own fields -/
def stS (f : Nat) (o' : Int) : Prop := (128 ≤ f ∧ f < 640) ∧ (f < 448 → o' = 0) ∧ (448 ≤ f → f < 576 → o' % 2 = 0) ∧ (576 ≤ f → 0 ≤ o' ∧ o' < 320)
theorem st_Bw {f : Nat} {o' : Int} (h : mBw 0 f o') : stS f o' := by unfold mBw at h; unfold stS; omega
theorem st_Mv {f : Nat} {o' : Int} (h : mMv 0 f o') : stS f o' := by unfold mMv at h; unfold stS; omega
theorem st_Wr {w : Int} {f : Nat} {o' : Int} (hw : w % 2 = 0) (h : mWr w f o') : stS f o' := by
  unfold mWr at h; rw [hw] at h
  rcases h with h | h
  · exact st_Bw h
  · unfold stS; omega
theorem st_Row {w : Int} {f : Nat} {o' : Int} (hw : w % 2 = 0) (h : mRow w f o') : stS f o' := by unfold mRow at h; unfold stS; omega
theorem st_Sf {f : Nat} {o' : Int} (h : mSf 0 f o') : stS f o' := by
  rcases h with h | h
  · exact st_Mv h
  · unfold stS; omega
theorem st_Rm {w : Int} {f : Nat} {o' : Int} (hw : w % 2 = 0) (h : mRm 0 w f o') : stS f o' := by
  rcases h with (h | h) | h | h
  · exact st_Wr hw h
  · unfold stS; omega
  · exact st_Sf h
  · unfold stS; omega
theorem st_Md {f : Nat} {o' : Int} (h : mMd 0 f o') : stS f o' := by
  rcases h with h | h
  · exact st_Row (by decide) h
  · unfold stS; omega
theorem st_Ix {f : Nat} {o' : Int} (h : mIx 0 f o') : stS f o' := by unfold mIx at h; unfold stS; omega
theorem st_Pg {f : Nat} {o' : Int} (h : mPg 0 f o') : stS f o' := by unfold mPg at h; unfold stS; omega
theorem st_Cm {f : Nat} {o' : Int} (h : mCm f o') : stS f o' := by
  rcases h with h | h | h | h | h | h
  · unfold stS; omega
  · exact st_Md h
  · exact st_Rm (by decide) h
  · exact st_Wr (by decide) h
  · unfold stS; omega
  · unfold stS; omega
theorem st_Ml {f : Nat} {o' : Int} (h : mMl f o') : stS f o' := by
  rcases h with h | h
  · exact st_Bw h
  · exact st_Mv h
theorem st_Wt {f : Nat} {o' : Int} (h : mWt f o') : stS f o' := by
  rcases h with h | h | h
  · exact st_Md h
  · exact st_Wr (by decide) h
  · unfold stS; omega
theorem st_Tb {f : Nat} {o' : Int} (h : mTb f o') : stS f o' := by
  rcases h with h | h | h
  · exact st_Wt h
  · exact st_Rm (by decide) h
  · unfold stS; omega
theorem st_Ec {f : Nat} {o' : Int} (h : mEc f o') : stS f o' := by
  rcases h with h | h | h | h | h
  · exact st_Tb h
  · exact st_Wr (by decide) h
  · exact st_Row (by decide) h
  · exact st_Ml h
  · unfold stS; omega
theorem st_Cf {f : Nat} {o' : Int} (h : mCf f o') : stS f o' := by
  rcases h with h | h
  · exact st_Cm h
  · exact st_Ec h
theorem st_Mn {f : Nat} {o' : Int} (h : mMn f o') : stS f o' := by
  rcases h with h | h | h
  · exact st_Rm (by decide) h
  · exact st_Wr (by decide) h
  · exact st_Ix h
theorem st_Cs {f : Nat} {o' : Int} (h : mCs f o') : stS f o' := by
  rcases h with (h | h) | h | h
  · exact st_Pg h
  · exact st_Row (by decide) h
  · exact st_Mn h
  · unfold stS; omega
theorem st_Bg {f : Nat} {o' : Int} (h : mBg f o') : stS f o' := by
  rcases h with h | h | h | h | h
  · exact st_Wr (by decide) h
  · exact st_Ml h
  · exact st_Row (by decide) h
  · unfold mB2 at h; unfold stS; omega
  · unfold stS; omega
theorem st_Bh {f : Nat} {o' : Int} (h : mBh f o') : stS f o' := by
  rcases h with h | h
  · exact st_Bg h
  · exact st_Ix h
theorem st_Cw {f : Nat} {o' : Int} (h : mCw f o') : stS f o' := by
  rcases h with h | h
  · exact st_Cf h
  · exact st_Bh h
theorem st_Mr {f : Nat} {o' : Int} (h : mMr f o') : stS f o' := by
  rcases h with h | h | h
  · exact st_Cs h
  · exact st_Cw h
  · unfold stS; omega
theorem st_Sy {f : Nat} {o' : Int} (h : mSy f o') : stS f o' := by
  rcases h with h | h
  · exact st_Wr (by decide) h
  · unfold stS; omega
theorem st_Lb {f : Nat} {o' : Int} (h : mLb 0 f o') : stS f o' := by
  rcases h with h | h | h
  · exact st_Bw h
  · exact st_Row (by decide) h
  · unfold stS; omega
theorem st_Bq {f : Nat} {o' : Int} (h : mBq f o') : stS f o' := by
  rcases h with h | h | h
  · exact st_Sf h
  · exact st_Lb h
  · unfold stS; omega
theorem st_Ap {f : Nat} {o' : Int} (h : mAp 0 f o') : stS f o' := by
  rcases h with h | h | h
  · exact st_Ix h
  · unfold mOr at h; unfold stS; omega
  · unfold stS; omega
theorem st_Jr {f : Nat} {o' : Int} (h : mJr f o') : stS f o' := by
  rcases h with h | h | h
  · exact st_Wr (by decide) h
  · unfold stS; omega
  · exact st_Row (by decide) h
theorem st_Hh {f : Nat} {o' : Int} (h : mHh f o') : stS f o' := by
  rcases h with (h | (h | h | h) | h) | h | h
  · exact st_Cf h
  · exact st_Sy h
  · exact st_Mr h
  · exact st_Bq h
  · exact st_Jr h
  · exact st_Ap h
  · exact st_Row (by decide) h
theorem st_k {f : Nat} {o' : Int} (h : stS f o') : ¬ hK f := by unfold stS at h; unfold hK; omega
