/-! Store.commitWhole and Store.commitAll -/
theorem sp_finish0 {tv : Nat → Int} {cf : Cf} {σ : St} {Q : St → Prop} (h : gI σ 213 0 = 0) (hQ : Q σ) : wp_Store_finish cf tv 0 Q σ := by
  unfold wp_Store_finish
  refine lQ0_rule (fun τ => τ = σ) (fun _ => 0) ?_ σ rfl
  intro K τ e _
  rw [e]
  unfold wp_Store_finish_L0
  exact ⟨fun _ => hQ, fun q => absurd h q⟩
theorem PR.stir {tv : Nat → Int} {cf : Cf} {σ τ : St} {dk : Int → Int} {db : Int → Int → Int} {L : List (Int × Int × Int × Int × Int × Int)} {S' : List (Int × Int × Int × (Int → Int)) × Int} {W : List (Int × (List (Int × Int × Int × (Int → Int)) × Int))} {r : RT} {B : Int} (h : PR tv cf σ dk db L S' W r B) (hS : SA tv cf τ dk db L) (hf : ∀ x, x ∈ krt τ 0 → gI τ 584 x ≠ 0) (hC : CK σ τ 0) (fr : Fr (mIx 0) σ τ) : PR tv cf τ dk db L S' W r B := by
  obtain ⟨σc, l, z, c, lg, lr, sM, nx, tn, tp, bl, s, s', b0, V, jn, sJ, hI, ⟨hD, hb0⟩, hO, hFX, hJ, hBD, ⟨hlo, hcm⟩, ⟨hcB, hsB, hsJ, hsd⟩, hV, hHD, hXO⟩ := h.1
  obtain ⟨-, hL, hnx, ⟨hs1, hs2⟩, ⟨ho1, ho2⟩, hB0⟩ := hI
  have fi : ∀ {g : Nat}, (201 ≤ g ∧ g ≤ 228) → gI τ g 0 = gI σ g 0 := fun {g} hg => fr.i _ _ (fun q => by unfold mIx at q; omega)
  have fa : ∀ {g : Nat}, (201 ≤ g ∧ g ≤ 228) → gA τ g 0 = gA σ g 0 := fun {g} hg => fr.a _ _ (fun q => by unfold mIx at q; omega)
  have nw : ∀ (f : Nat) (w : Int), (w = 0 ∨ w = 0 + 2 ∨ w = 0 + 4) → 450 ≤ f → f ≤ 452 → ¬ mIx 0 f w := fun f w _ a b q => by unfold mIx at q; omega
  have nu : ∀ v, isW 0 v → gI τ 451 v = gI σ 451 v := fun v hv => fr.i _ _ (nw _ v hv (by decide) (by decide))
  have np : gI τ 452 0 = gI σ 452 0 := fr.i _ _ (nw _ 0 (Or.inl rfl) (by decide) (by decide))
  have us : gA τ 323 0 = gA σ 323 0 := fr.a _ _ (fun q => by unfold mIx at q; omega)
  have ox : gA τ 325 0 = gA σ 325 0 := fr.a _ _ (fun q => by unfold mIx at q; omega)
  have hO' : ONv tv cf τ dk db L c lg s := by
    obtain ⟨⟨g1, g2, g3, g4⟩, ⟨g5, g6⟩, g7, ⟨g8, g9⟩, ⟨g11, g12⟩, ⟨g13, g14⟩, g15, g16⟩ := hO
    have ee : ∀ m, eE τ 0 dk m = eE σ 0 dk m := fun m => eE_fr fr nw
    have hh : ∀ m, hld τ 0 m → hld σ 0 m := fun m ⟨v, v1, v2⟩ => ⟨v, v1, by rw [← nu v v1]; exact v2⟩
    refine ⟨⟨by rw [fi (by decide)]; exact g1, g2, by rw [fi (by decide)]; exact g3, g4⟩, ⟨g5, g6⟩, g7, ⟨fun m m0 m1 hm => ?_, fun x hx hfx => absurd hfx (hf x hx)⟩, ⟨?_, by rw [fi (by decide)]; exact g12⟩, ⟨by rw [fi (by decide)]; exact g13, fun k k0 k1 => ?_⟩, ?_, ?_⟩
    · rw [us] at hm; rw [ee]; exact g8 m m0 m1 hm
    · unfold orL
      rw [fa (by decide), fi (by decide)]; exact g11
    · rw [fi (by decide)] at k1
      rw [fa (g := 210) (by decide), us, nu 0 (Or.inl rfl)]
      obtain ⟨a, b, c⟩ := g14 k k0 k1
      refine ⟨a, b, ?_⟩
      rcases c with c | c
      · exact Or.inl c
      · exact Or.inr (fun z => c (hh _ z))
    · have := hC.2.2.2
      omega
    · rw [ox, us, nu 4 (Or.inr (Or.inr rfl))]; exact g16
  refine ⟨⟨σc, l, z, c, lg, lr, sM, nx, tn, tp, bl, s, s', b0, V, jn, sJ, ⟨hS, hL, by rw [fi (by decide)]; exact hnx, ⟨by rw [fi (by decide)]; exact hs1, hs2⟩, hO'.2.2.2.2.1, hB0⟩, ⟨hD.fr fr (fun f o' a q => by unfold rBI at a; unfold mIx at q; omega), hb0⟩, hO', hFX, ?_, ?_, ⟨by rw [fi (by decide)]; exact hlo, by rw [fi (by decide)]; exact hcm⟩, ⟨hcB, hsB, hsJ, hsd⟩, ?_, fun m m0 m1 q => ?_, hXO.fr ox rfl⟩, by rw [fi (by decide)]; exact h.2⟩
  · unfold JI
    rw [nu 0 (Or.inl rfl), np, fi (g := 205) (by decide), fa (g := 204) (by decide)]
    exact hJ
  · unfold BDl
    rw [fi (g := 211) (by decide), fa (g := 210) (by decide)]
    exact hBD
  · unfold VCl VC
    rw [fi (g := 223) (by decide), fi (g := 225) (by decide), fi (g := 224) (by decide), us]
    exact hV
  · rw [us] at q
    rcases hHD m m0 m1 q with ⟨w, w1, w2⟩ | ⟨k, k1, k2⟩
    · exact Or.inl ⟨w, w1, by rw [nu w w1]; exact w2⟩
    · exact Or.inr ⟨k, by rw [fi (g := 211) (by decide)]; exact k1, by rw [fa (g := 210) (by decide)]; exact k2⟩
def mCw (f : Nat) (o' : Int) : Prop := mCf f o' ∨ mBh f o'
theorem PR.cm {tv : Nat → Int} {cf : Cf} {σ : St} {dk : Int → Int} {db : Int → Int → Int} {L : List (Int × Int × Int × Int × Int × Int)} {S' : List (Int × Int × Int × (Int → Int)) × Int} {W : List (Int × (List (Int × Int × Int × (Int → Int)) × Int))} {r : RT} {B : Int} (h : PG tv cf σ dk db L S' W r B) : SA tv cf σ dk db L ∧ gI σ 213 0 = 0 ∧ HDv cf σ := by
  obtain ⟨σc, l, z, c, lg, lr, sM, nx, tn, tp, bl, s, s', b0, V, jn, sJ, hI, -, -, -, -, -, ⟨-, q⟩, -, -, hH, -⟩ := h
  exact ⟨hI.1, q, hH⟩
theorem P1.sa {tv : Nat → Int} {cf : Cf} {σ : St} {dk : Int → Int} {db : Int → Int → Int} {B : Int} {r : RT} {L : List (Int × Int × Int × Int × Int × Int)} {R Old : List Int} (h : P1 tv cf σ dk db L r B R Old) : SA tv cf σ dk db L := by
  obtain ⟨σc, l, z, c, lg, lr, sM, nx, tn, tp, bl, s, s', b0, lr2, f, W, G, NW, hI, -⟩ := h
  exact hI.1
/-- behind a whole commit -/
def CWo (cf : Cf) (σ τ : St) : Prop := rmy cf (gA τ 323 0) (gA τ 325 0) ≤ emp cf (gA τ 323 0) + whl cf + 1 ∧ rmy cf (gA σ 323 0) (gA σ 325 0) ≤ rmy cf (gA τ 323 0) (gA τ 325 0) ∧ (∀ k, 4 + cf.2.2 ≤ k → k < cf.1 - 6 → gA τ 323 0 k = 1 → gA τ 324 0 k ≠ 0) ∧ gI τ 223 0 = -1 ∧ (gI σ 211 0 = 0 → UX cf σ τ) ∧ ((∀ w, isW 0 w → w ≠ 4 → gI τ 451 w = gI σ 451 w) ∧ (gI σ 451 2 ≠ -1 → gI τ 452 2 ≤ gI σ 452 2 + 127)) ∧ (gI σ 451 0 = -1 → gI τ 211 0 = 0) ∧ UXw cf σ τ
theorem sp_commitWholeP {tv : Nat → Int} {cf : Cf} {σ : St} {dk : Int → Int} {db : Int → Int → Int} {B : Int} {r : RT} {L : List (Int × Int × Int × Int × Int × Int)} {S' : List (Int × Int × Int × (Int → Int)) × Int} {W : List (Int × (List (Int × Int × Int × (Int → Int)) × Int))} {Q : St → Prop} (hc : CfOK cf) (h : PR tv cf σ dk db L S' W r B) (hE : whl cf ≤ emp cf (gA σ 323 0)) (hf : flu σ 0) (hB : B + 408 < 1073741000)
    (hQ : ∀ τ dk' db', PR tv cf τ dk' db' L (AM db' L, gI τ 203 0) [] r (B + 408) → AM db' L = AM db L → CWo cf σ τ → Fr mCw σ τ → RK τ → Q τ) : wp_Store_commitWhole cf tv 0 Q σ := by
  obtain ⟨hS, hcm, hHD⟩ := PR.cm h.1
  unfold wp_Store_commitWhole
  refine sp_finish0 hcm (fun _ => ?_)
  refine sp_stirSA hc hS (fun ρ S0 f0 ck ke kr lv fr2 => ?_)
  have h0 := h.stir S0 f0 ck fr2
  have hHD0 := (PR.cm h0.1).2.2
  have nm : ∀ f o', mIx 0 f o' → 450 ≤ f → f ≤ 452 → False := fun f o' q a b => by unfold mIx at q; omega
  have fl : flu ρ 0 := by
    unfold flu
    rw [fr2.i 451 0 (fun q => nm _ _ q (by decide) (by decide)), fr2.i 452 0 (fun q => nm _ _ q (by decide) (by decide))]; exact hf
  have us : gA ρ 323 0 = gA σ 323 0 := fr2.a _ _ (fun q => by unfold mIx at q; omega)
  have ox : gA ρ 325 0 = gA σ 325 0 := fr2.a _ _ (fun q => by unfold mIx at q; omega)
  have bc : gI ρ 211 0 = gI σ 211 0 := fr2.i _ _ (fun q => by unfold mIx at q; omega)
  refine sp_beginP hc h0 (by rw [us]; exact hE) fl (by omega) (fun τ dk1 db1 R Old p1 am1 old1 bg1 k1 _ => ?_)
  have oe := old1 f0
  refine sp_finishP hc p1 (by omega) (fun υ dk2 db2 p2 am2 fi2 fr3 k2 _ => ?_)
  have fb := bg1.2.2.2.2.2.2
  have rr : rmy cf (gA τ 323 0) (gA τ 325 0) = rmy cf (gA σ 323 0) (gA σ 325 0) := by
    rw [bg1.2.2.1.2, us, ox]
  have n3 : ∀ w, isW 0 w → w ≠ 4 → ∀ g, (g = 451 ∨ g = 452) → gI υ g w = gI τ g w := fun w hw n4 g hg => fr3.i _ _ (fun q => by unfold isW at hw; unfold mCf mCm mEc mTb mWt mMd mRow mRm mWc mSf mWr mMl mBw mMv at q; omega)
  have n1 : ∀ w, isW 0 w → gI τ 451 w = gI ρ 451 w := fun w hw => fb.i _ _ (fun q => by unfold isW at hw; unfold mBh mBg mWr mMl mBw mMv mRow mB2 mIx at q; omega)
  have n0 : ∀ w g, (g = 451 ∨ g = 452) → gI ρ g w = gI σ g w := fun w g hg => fr2.i _ _ (fun q => nm _ _ q (by omega) (by omega))
  refine hQ υ dk2 db2 (by rw [show B + 408 = B + 6 + 402 by omega]; exact p2) (am2.trans am1) ⟨fi2.2.1 oe, by rw [← rr]; exact fi2.2.2.1, fi2.2.2.2.1, fi2.2.2.2.2.1, fun q => ?_, ⟨fun w hw n4 => by rw [n3 w hw n4 _ (Or.inl rfl), n1 w hw, n0 w _ (Or.inl rfl)], fun q => ?_⟩, fun q => ?_, ?_⟩ ?_ k2
  · have ux1 : UX cf ρ τ := bg1.ux p1.sa S0 hHD0 (by rw [bc]; exact q) hc.2.2.1
    have ux0 : UX cf σ ρ := fun m _ _ q => by
      rw [ox] at q
      exact ⟨q, Or.inl (by rw [us])⟩
    exact (ux0.tr ux1).tr fi2.2.2.2.2.2
  · have a := bg1.2.2.1.1.2 (by rw [n0 2 _ (Or.inl rfl)]; exact q)
    rw [n0 2 _ (Or.inr rfl)] at a
    rw [n3 2 (Or.inr (Or.inl rfl)) (by omega) _ (Or.inr rfl)]
    exact a
  · have a := p1.bud (by rw [n1 0 (Or.inl rfl), n0 0 _ (Or.inl rfl)]; exact q)
    rw [fr3.i _ _ (fun q => by unfold mCf mCm mEc mTb mWt mMd mRow mRm mWc mSf mWr mMl mBw mMv at q; omega)]
    exact a
  · have q := bg1.uxw.tr fi2.2.2.2.2.2
    unfold UXw at q ⊢
    rw [us, ox] at q
    exact q
  · exact ((fr2.mono (fun f o' q => Or.inr (Or.inr q))).tr (fb.mono (fun f o' q => Or.inr q))).tr (fr3.mono (fun f o' q => Or.inl q))
theorem sp_commitAllP {tv : Nat → Int} {cf : Cf} {σ : St} {dk : Int → Int} {db : Int → Int → Int} {B : Int} {r : RT} {L : List (Int × Int × Int × Int × Int × Int)} {S' : List (Int × Int × Int × (Int → Int)) × Int} {W : List (Int × (List (Int × Int × Int × (Int → Int)) × Int))} {Q : St → Prop} (hc : CfOK cf) (h : PR tv cf σ dk db L S' W r B) (hE : rom cf σ (whl cf + 1) (2 * whl cf + 2)) (hf : flu σ 0) (hB : B + 408 < 1073741000)
    (hQ : ∀ τ dk' db', PR tv cf τ dk' db' L (AM db' L, gI τ 203 0) [] r (B + 408) → AM db' L = AM db L → rom cf τ (whl cf + 1) (2 * whl cf + 2) → gI τ 223 0 = -1 → (gI σ 451 0 = -1 → gI τ 211 0 = 0) → Fr mCw σ τ → RK τ → Q τ) : wp_Store_commitAll cf tv 0 Q σ := by
  obtain ⟨-, hcm, -⟩ := PR.cm h.1
  unfold wp_Store_commitAll
  refine sp_finish0 hcm (fun _ => ?_)
  refine sp_beginP hc h (by have := hE.1; omega) hf (by omega) (fun τ dk1 db1 R Old p1 am1 old1 bg1 k1 _ => ?_)
  refine sp_finishP hc p1 (by omega) (fun υ dk2 db2 p2 am2 fi2 fr3 k2 _ => ?_)
  have fb := bg1.2.2.2.2.2.2
  refine hQ υ dk2 db2 (by rw [show B + 408 = B + 6 + 402 by omega]; exact p2) (am2.trans am1) (fi2.1 (by have a := hE.2; have b := bg1.2.2.1.2; have c := fi2.2.2.1; omega)) fi2.2.2.2.2.1 (fun q => ?_) ?_ k2
  · have a := p1.bud (by rw [fb.i _ _ (fun q => by unfold mBh mBg mWr mMl mBw mMv mRow mB2 mIx at q; omega)]; exact q)
    rw [fr3.i _ _ (fun q => by unfold mCf mCm mEc mTb mWt mMd mRow mRm mWc mSf mWr mMl mBw mMv at q; omega)]
    exact a
  · exact (fb.mono (fun f o' q => Or.inr q)).tr (fr3.mono (fun f o' q => Or.inl q))
