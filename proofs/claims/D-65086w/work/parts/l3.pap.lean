/-! items change in memory, as the journal's last group tells; a commit that goes on is ended -/
def mAq (f : Nat) (o' : Int) : Prop := mAp 0 f o' ∨ mRow 6 f o'
theorem mAq_n {f : Nat} {o' : Int} (q : mAq f o') : mIx 0 f o' ∨ ((f = 217 ∨ f = 218 ∨ f = 203) ∧ o' = 0) ∨ mRow 6 f o' := by
  unfold mAq mAp mOr at q
  rcases q with (q | q | q) | q
  · exact Or.inl q
  · exact Or.inr (Or.inl ⟨by omega, q.2⟩)
  · exact Or.inr (Or.inl ⟨by omega, q.2⟩)
  · exact Or.inr (Or.inr q)
theorem PG.ap {tv : Nat → Int} {cf : Cf} {σ τ : St} {dk : Int → Int} {db : Int → Int → Int} {B X : Int} {r : RT} {L L2 : List (Int × Int × Int × Int × Int × Int)} {S' : List (Int × Int × Int × (Int → Int)) × Int} {W : List (Int × (List (Int × Int × Int × (Int → Int)) × Int))} (hc : CfOK cf) (h : PG tv cf σ dk db L S' W r B) (S1 : SA tv cf τ dk db L2) (ck : CK σ τ 0) (ho : (orL τ 0).Perm (nlL (AM db L2)) ∧ 0 ≤ gI τ 218 0 ∧ gI τ 218 0 ≤ 8) (hL : L2.length ≤ 880 ∧ cpM (AM db L2) ≤ capa cf) (hnx : 0 ≤ gI τ 203 0 ∧ gI τ 203 0 < 1073741824) (hES : ES db L2 X) (hX : X ≤ gI σ 202 0) (hmem : ∀ e, e ∈ L2 → e ∈ L ∨ (gI σ 451 0 ≠ -1 ∧ e.2.2.1 = gI σ 451 0)) (fr : Fr mAq σ τ) (hla : laS S' W = (AM db L2, gI τ 203 0)) : PR tv cf τ dk db L2 S' W r B := by
  have hR : 0 ≤ cf.2.2 ∧ cf.2.2 ≤ 4 := hc.2.2
  obtain ⟨σc, l, z, c, lg, lr, sv, nx, tn, tp, bl, s, s', b0, V, jn, sJ, hI, ⟨hD, hb0⟩, hO, hFX, hJ, hBD, hlo, hcb, hV, hHD, hXO⟩ := h
  obtain ⟨hS, -, -, ⟨hs1, hs2⟩, -, hB0, -⟩ := hI
  have gs : ∀ g, (201 ≤ g ∧ g ≤ 228 ∧ g ≠ 217 ∧ g ≠ 218 ∧ g ≠ 203) → gI τ g 0 = gI σ g 0 ∧ gA τ g 0 = gA σ g 0 := fun g hg => ⟨fr.i _ _ (fun q => by have q := mAq_n q; unfold mIx mRow at q; omega), fr.a _ _ (fun q => by have q := mAq_n q; unfold mIx mRow at q; omega)⟩
  have gw : ∀ g w, (450 ≤ g ∧ g ≤ 452) → isW 0 w → gI τ g w = gI σ g w := fun g w hg hw => fr.i _ _ (fun q => by have q := mAq_n q; unfold mIx mRow at q; unfold isW at hw; omega)
  have us : gA τ 323 0 = gA σ 323 0 := fr.a _ _ (fun q => by have q := mAq_n q; unfold mIx mRow at q; omega)
  have ox : gA τ 325 0 = gA σ 325 0 := fr.a _ _ (fun q => by have q := mAq_n q; unfold mIx mRow at q; omega)
  have hl : ∀ m, hld τ 0 m ↔ hld σ 0 m := fun m => ⟨fun ⟨v, v1, v2⟩ => ⟨v, v1, by rw [← gw _ v (by decide) v1]; exact v2⟩, fun ⟨v, v1, v2⟩ => ⟨v, v1, by rw [gw _ v (by decide) v1]; exact v2⟩⟩
  have ee : ∀ m, eE τ 0 dk m = eE σ 0 dk m := fun m => eE_fr fr (fun f w _ a b q => by have q := mAq_n q; unfold mIx mRow at q; omega)
  have hO' : ONv tv cf τ dk db L2 c lg s := by
    obtain ⟨⟨g1, g2, g3, g4⟩, g5, g7, ⟨g8, g9⟩, -, ⟨g13, g14⟩, g15, g16⟩ := hO
    refine ⟨⟨by rw [(gs _ (by decide)).1]; exact g1, g2, by rw [(gs _ (by decide)).1]; exact g3, g4⟩, g5, g7, ⟨fun m m0 m1 hm => ?_, fun x hx hfx => ?_⟩, ho, ⟨by rw [(gs _ (by decide)).1]; exact g13, fun k k0 k1 => ?_⟩, ?_, ?_⟩
    · rw [us] at hm; rw [ee m]; exact g8 m m0 m1 hm
    · obtain ⟨x1, x2, w1, w2, w3, w4⟩ := ck.2.1 x hx hfx
      rw [w1] at hfx
      rw [w2, w3]
      exact g9 x x1 hfx
    · rw [(gs _ (by decide)).1] at k1
      obtain ⟨y1, y2, y3⟩ := g14 k k0 k1
      rw [(gs 210 (by decide)).2, us, gw _ 0 (by decide) (Or.inl rfl)]
      exact ⟨y1, y2, y3.imp id (fun y q => y ((hl _).mp q))⟩
    · have := ck.2.2.2
      omega
    · rw [ox, us, gw _ 4 (by decide) (Or.inr (Or.inr rfl))]; exact g16
  refine ⟨⟨σc, l, z, c, lg, lr, sv, nx, tn, tp, bl, s, s', b0, V, jn, sJ, ⟨S1, hL, hnx, ⟨by rw [(gs _ (by decide)).1]; exact hs1, hs2⟩, ho, hB0, hES.le (by omega)⟩, ⟨hD.fr fr (fun f o' a q => by unfold rBI at a; have q := mAq_n q; unfold mIx mRow at q; omega), hb0⟩, hO', hFX, ?_, ?_, ⟨by rw [(gs _ (by decide)).1]; exact hlo.1, by rw [(gs _ (by decide)).1]; exact hlo.2⟩, hcb, ?_, fun m m0 m1 q => ?_, hXO.fr ox rfl⟩, hla⟩
  · unfold JI
    rw [gw 451 0 (by decide) (Or.inl rfl), gw 452 0 (by decide) (Or.inl rfl), (gs 205 (by decide)).1, (gs 204 (by decide)).2]
    exact hJ
  · unfold BDl
    rw [(gs 211 (by decide)).1, (gs 210 (by decide)).2]; exact hBD
  · have vs : gA σ 323 0 (gI σ 223 0) = 1 → ∀ e, e ∈ L2 → e.2.2.1 = gI σ 223 0 → e ∈ L := fun q e he hn => by
      rcases hmem e he with w | ⟨w1, w2⟩
      · exact w
      · have := (hS.2.2.2.1 0 (Or.inl rfl) w1).1
        rw [← w2, hn, q] at this
        omega
    unfold VCl VC at hV ⊢
    rw [(gs 223 (by decide)).1, (gs 225 (by decide)).1, (gs 224 (by decide)).1, us]
    rcases hV with q | ⟨q, ⟨q1, q2⟩, q3, q5⟩ | ⟨q, ⟨q1, q2⟩, q3⟩
    · exact Or.inl q
    · exact Or.inr (Or.inl ⟨q, ⟨q1, q2⟩, q3, fun e he hn => q5 e (vs q2 e he hn) hn⟩)
    · exact Or.inr (Or.inr ⟨q, ⟨q1, q2⟩, fun e he hn => q3 e (vs q2 e he hn) hn⟩)
  · rw [us] at q
    rcases hHD m m0 m1 q with w | ⟨k, k1, k2⟩
    · exact Or.inl ((hl m).mpr w)
    · exact Or.inr ⟨k, by rw [(gs 211 (by decide)).1]; exact k1, by rw [(gs 210 (by decide)).2]; exact k2⟩
/-- the store, with room: outside of a commit, or in one -/
def PX (tv : Nat → Int) (cf : Cf) (σ : St) (dk : Int → Int) (db : Int → Int → Int) (L : List (Int × Int × Int × Int × Int × Int)) (S' : List (Int × Int × Int × (Int → Int)) × Int) (W : List (Int × (List (Int × Int × Int × (Int → Int)) × Int))) (r : RT) (B : Int) : Prop := (PR tv cf σ dk db L S' W r B ∧ rom cf σ (whl cf + 1) (2 * whl cf + 2)) ∨ (∃ R Old, P1 tv cf σ dk db L r B R Old ∧ S' = (AM db L, gI σ 203 0) ∧ W = [] ∧ 2 * whl cf + 2 ≤ rmy cf (gA σ 323 0) (gA σ 325 0))
theorem sp_finishX {tv : Nat → Int} {cf : Cf} {σ : St} {dk : Int → Int} {db : Int → Int → Int} {B : Int} {r : RT} {L : List (Int × Int × Int × Int × Int × Int)} {S' : List (Int × Int × Int × (Int → Int)) × Int} {W : List (Int × (List (Int × Int × Int × (Int → Int)) × Int))} {Q : St → Prop} (hc : CfOK cf) (h : PX tv cf σ dk db L S' W r B) (hB : B + 402 < 1073741000)
    (hQ : ∀ τ dk' db', PR tv cf τ dk' db' L S' W r (B + 402) → rom cf τ (whl cf + 1) (2 * whl cf + 2) → AM db' L = AM db L → Fr mCf σ τ → RK τ → Q τ) : wp_Store_finish cf tv 0 Q σ := by
  rcases h with ⟨h1, h2⟩ | ⟨R, Old, h1, h2, h3, h4⟩
  · exact sp_finish0 (PR.cm h1.1).2.1 (hQ σ dk db (h1.le (by omega) hB) h2 rfl (Fr.rf _ _) (PR.cm h1.1).1.1.2)
  · refine sp_finishP hc h1 hB (fun τ dk' db' p am fi fr k => ?_)
    have nx : gI τ 203 0 = gI σ 203 0 := fr.i _ _ (fun q => by unfold mCf mCm mEc mTb mWt mMd mRow mRm mWc mSf mWr mMl mBw mMv at q; omega)
    rw [nx, am, ← h2] at p
    subst h3
    exact hQ τ dk' db' p (fi.1 (by have := fi.2.2.1; omega)) am fr k
