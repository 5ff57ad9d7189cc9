/-! steps of a commit, and its beginning, for the store as a whole -/
theorem NBp.grow {tv : Nat → Int} {cf : Cf} {σ τ : St} {dk dk' : Int → Int} {db db' : Int → Int → Int} {lg lr s s' : Int} (h : NBp tv σ dk db lg lr s) (hd : dk' lg = dk lg) (hb : ∀ p, 0 ≤ p → p < lmF dk lg → db' lg p = db lg p) (f1 : ∀ g, (g = 451 ∨ g = 452 ∨ g = 209 ∨ g = 211) → gI τ g 0 = gI σ g 0) (f2 : gA τ 210 0 = gA σ 210 0) (hs : s ≤ s') : NBp tv τ dk' db' lg lr s' := by
  unfold NBp
  rw [f1 209 (by omega), f1 211 (by omega), f1 451 (by omega), f1 452 (by omega), f2, hd]
  refine ⟨h.1, ?_⟩
  rcases h.2 with q | ⟨q1, q2, ⟨sb, q3, q4, q5⟩, q6⟩
  · exact Or.inl q
  · exact Or.inr ⟨q1, q2, ⟨sb, q3.sh (fun k k0 k1 => (hb _ (by omega) (by unfold lmF; omega)).symm), q4, by omega⟩, q6⟩
/-- what a commit does with numbers that are not of the index -/
def UX (cf : Cf) (σ τ : St) : Prop := ∀ m, 4 + cf.2.2 ≤ m → m < cf.1 - 6 → gA τ 325 0 m = 0 → gA σ 325 0 m = 0 ∧ (gA τ 323 0 m = gA σ 323 0 m ∨ gA τ 323 0 m = 0)
theorem UX.rf (cf : Cf) (σ : St) : UX cf σ σ := fun _ _ _ q => ⟨q, Or.inl rfl⟩
theorem FC.isx1 {tv : Nat → Int} {cf : Cf} {dk : Int → Int} {db : Int → Int → Int} {σc : St} {l : Nat} {z c lg lr sM nx tn tp : Int} (hF : FC tv cf dk db σc l z c lg lr sM nx tn tp) (hc : CfOK cf) {m : Int} (q : isx σc l z tn m) : 1 ≤ dk m := by
  rcases q with q | ⟨y, y1, y2⟩
  · have t := hF.2.2.2.1
    have b := tbl_r hc
    rw [q]
    have t2 := t.2.2.1
    unfold lmF at t2
    omega
  · obtain ⟨-, k2, k3, k4, k5, -⟩ := hF.2.2.1.2.1 y y1
    have c := hF.2.2.1.1.kcnt y y1
    rw [y2, k2] at k5
    unfold lmF szK at k5
    omega
theorem EXn.ux {tv : Nat → Int} {cf : Cf} {σ τ : St} {dk : Int → Int} {db : Int → Int → Int} {L : List (Int × Int × Int × Int × Int × Int)} {σc : St} {l : Nat} {z c lg lr sM nx tn tp : Int} (h : EXn cf σ σc l z tn) (hF : FC tv cf dk db σc l z c lg lr sM nx tn tp) (hS : SA tv cf σ dk db L) (hc : CfOK cf) (u : UX cf σ τ) : EXn cf τ σc l z tn := by
  have hR : 0 ≤ cf.2.2 ∧ cf.2.2 ≤ 4 := hc.2.2
  unfold EXn at *
  refine Int.le_trans h (Int.ofNat_le.mpr (@cnt_le _ _ (fun _ => Classical.propDecidable _) (fun _ => Classical.propDecidable _) _ (fun m m0 m1 q => ⟨q.1, ?_⟩)))
  have m1' : m < cf.1 - 6 := by omega
  by_cases o : gA τ 325 0 m = 0
  · obtain ⟨o1, o2⟩ := u m q.1 m1' o
    rcases q.2 with w | w
    · exact Or.inl (by omega)
    · exact absurd o1 w.1
  · refine Or.inr ⟨o, fun x => ?_⟩
    rcases q.2 with w | w
    · have d := ((hS.2.2.1 m q.1 m1').2.1 w).1
      have := hF.isx1 hc x
      omega
    · exact w.2 x
theorem EXn.of {cf : Cf} {σ σc : St} {l : Nat} {z tn : Int} (h : whl cf ≤ emp cf (gA σ 323 0)) : EXn cf σ σc l z tn := by
  unfold emp at h
  unfold EXn
  exact Int.le_trans h (Int.ofNat_le.mpr (@cnt_le _ _ _ (fun _ => Classical.propDecidable _) _ (fun m m0 m1 q => ⟨q.1, Or.inl q.2⟩)))
theorem UX.tr {cf : Cf} {σ ρ τ : St} (h : UX cf σ ρ) (k : UX cf ρ τ) : UX cf σ τ := fun m m0 m1 q => by
  obtain ⟨a, b⟩ := k m m0 m1 q
  obtain ⟨c, d⟩ := h m m0 m1 a
  refine ⟨c, ?_⟩
  rcases b with b | b
  · rcases d with d | d
    · exact Or.inl (b.trans d)
    · exact Or.inr (b.trans d)
  · exact Or.inr b
theorem KHo.ux {tv : Nat → Int} {cf : Cf} {σ τ : St} {dk : Int → Int} {db : Int → Int → Int} {L : List (Int × Int × Int × Int × Int × Int)} {sz : Int} (h : KHo cf σ τ sz) (hS : SA tv cf σ dk db L) (h0 : 0 ≤ cf.2.2) : UX cf σ τ := fun m m0 m1 q => by
  rcases h with ⟨-, -, -, q4, q5⟩ | ⟨q1, q2, q3, q4, q5, q6⟩
  · rw [q5] at q
    exact ⟨q, Or.inl (by rw [q4])⟩
  · rw [q6] at q
    unfold upF at q
    by_cases e : m = gI τ 451 4
    · rw [if_pos e] at q; exact absurd q (by decide)
    · rw [if_neg e] at q
      refine ⟨q, Or.inl ?_⟩
      rw [q5 m (by omega), if_neg e]
      by_cases e2 : m = gI σ 451 4
      · have := (hS.2.2.2.1 4 (Or.inr (Or.inr rfl)) (by omega)).2
        rw [← e2, q, if_pos rfl] at this
        exact absurd this (by decide)
      · rw [if_neg e2]
theorem KHo.hd {cf : Cf} {σ τ : St} {sz : Int} (h : KHo cf σ τ sz) (hH : HD1 cf σ) (h0 : 0 ≤ cf.2.2) (f0 : gI τ 451 0 = gI σ 451 0) (f2 : gI τ 451 2 = gI σ 451 2) : HD1 cf τ := fun m m0 m1 q => by
  have old : hld σ 0 m → m ≠ gI σ 451 4 ∨ gI τ 451 4 = gI σ 451 4 → hld τ 0 m := fun ⟨w, w1, w2⟩ z => by
    rcases w1 with e | e | e
    · exact ⟨0, Or.inl rfl, by rw [f0, ← e]; exact w2⟩
    · exact ⟨2, Or.inr (Or.inl rfl), by rw [f2]; rw [e] at w2; exact w2⟩
    · rw [e] at w2
      have w2' : gI σ 451 4 = m := w2
      exact ⟨4, Or.inr (Or.inr rfl), by omega⟩
  rcases h with ⟨-, q2, -, q4, q5⟩ | ⟨q1, q2, q3, q4, q5, q6⟩
  · rw [q4] at q
    exact old (hH m m0 m1 q) (Or.inr q2)
  · rw [q5 m (by omega)] at q
    by_cases e : m = gI τ 451 4
    · exact ⟨4, Or.inr (Or.inr rfl), e.symm⟩
    · rw [if_neg e] at q
      by_cases e2 : m = gI σ 451 4
      · rw [if_pos e2] at q; omega
      · rw [if_neg e2] at q
        exact old (hH m m0 m1 q) (Or.inl e2)
theorem ECo.ux {tv : Nat → Int} {cf : Cf} {σ τ : St} {dk dk' : Int → Int} {db db' : Int → Int → Int} {L : List (Int × Int × Int × Int × Int × Int)} {c lg lr s : Int} (hE : ECo tv cf σ τ dk dk' db db' L c lg lr s) (hS : SA tv cf σ dk db L) (h0 : 0 ≤ cf.2.2) (hH : HD1 cf σ) : UX cf σ τ ∧ HD1 cf τ := by
  obtain ⟨-, -, -, -, ⟨σ2, kh, sw1, sw2, oxt, w4t, -⟩, -, -, -, fr, -⟩ := hE
  have sw : ∀ m, gA τ 323 0 m = gA σ2 323 0 m ∨ gA τ 323 0 m = 0 := fun m => by
    by_cases q : swp cf (gA σ2 323 0) (gA τ 324 0) (cf.1 - 6) m
    · exact Or.inr (sw1 m q)
    · exact Or.inl (sw2 m q)
  have f0 : gI τ 451 0 = gI σ 451 0 := fr.i _ _ (fun q => by unfold mEc mTb mWt mMd mRow mRm mWc mSf mWr mMl mBw mMv at q; omega)
  have f2 : gI τ 451 2 = gI σ 451 2 := fr.i _ _ (fun q => by unfold mEc mTb mWt mMd mRow mRm mWc mSf mWr mMl mBw mMv at q; omega)
  refine ⟨fun m m0 m1 q => ?_, fun m m0 m1 q => ?_⟩
  · rw [oxt] at q
    obtain ⟨a, b⟩ := kh.ux hS h0 m m0 m1 q
    refine ⟨a, ?_⟩
    rcases sw m with e | e
    · rw [e]; exact b
    · exact Or.inr e
  · have e : gA σ2 323 0 m = 2 := by
      rcases sw m with e | e
      · rw [← e]; exact q
      · omega
    have old : hld σ 0 m → (m ≠ gI σ 451 4 ∨ gI τ 451 4 = gI σ 451 4) → hld τ 0 m := fun ⟨w, w1, w2⟩ z => by
      rcases w1 with e | e | e
      · exact ⟨0, Or.inl rfl, by rw [f0, ← e]; exact w2⟩
      · exact ⟨2, Or.inr (Or.inl rfl), by rw [f2]; rw [e] at w2; exact w2⟩
      · rw [e] at w2
        have w2' : gI σ 451 4 = m := w2
        exact ⟨4, Or.inr (Or.inr rfl), by omega⟩
    rcases kh with ⟨-, q2, -, q4, q5⟩ | ⟨q1, q2, q3, q4, q5, q6⟩
    · rw [q4] at e
      exact old (hH m m0 m1 e) (Or.inr (w4t.trans q2))
    · rw [q5 m (by omega)] at e
      by_cases e1 : m = gI σ2 451 4
      · exact ⟨4, Or.inr (Or.inr rfl), by rw [e1]; exact w4t⟩
      · rw [if_neg e1] at e
        by_cases e2 : m = gI σ 451 4
        · rw [if_pos e2] at e; omega
        · rw [if_neg e2] at e
          exact old (hH m m0 m1 e) (Or.inl e2)
/-- behind the end of a commit: room, and what it did with numbers -/
def FIo (cf : Cf) (σ τ : St) (Old : List Int) : Prop := (2 * whl cf + 2 ≤ rmy cf (gA τ 323 0) (gA τ 325 0) → rom cf τ (whl cf + 1) (2 * whl cf + 2)) ∧ (Old = [] → rmy cf (gA τ 323 0) (gA τ 325 0) ≤ emp cf (gA τ 323 0) + whl cf + 1) ∧ rmy cf (gA σ 323 0) (gA σ 325 0) ≤ rmy cf (gA τ 323 0) (gA τ 325 0) ∧ (∀ k, 4 + cf.2.2 ≤ k → k < cf.1 - 6 → gA τ 323 0 k = 1 → gA τ 324 0 k ≠ 0) ∧ gI τ 223 0 = -1 ∧ UX cf σ τ
theorem FIo.pre {cf : Cf} {ρ σ τ : St} {Old : List Int} (h : FIo cf σ τ Old) (hr : rmy cf (gA σ 323 0) (gA σ 325 0) = rmy cf (gA ρ 323 0) (gA ρ 325 0)) (hu : UX cf ρ σ) : FIo cf ρ τ Old := ⟨h.1, h.2.1, by rw [← hr]; exact h.2.2.1, h.2.2.2.1, h.2.2.2.2.1, hu.tr h.2.2.2.2.2⟩
theorem sp_stepP {tv : Nat → Int} {cf : Cf} {σ : St} {dk : Int → Int} {db : Int → Int → Int} {B : Int} {r : RT} {L : List (Int × Int × Int × Int × Int × Int)} {R Old : List Int} {Q : St → Prop} (hc : CfOK cf) (h : P1 tv cf σ dk db L r B R Old) (hB : B + 402 < 1073741000)
    (hQ1 : ∀ τ dk' db' x R', R = x :: R' → P1 tv cf τ dk' db' L r B R' Old → AM db' L = AM db L → rmy cf (gA τ 323 0) (gA τ 325 0) = rmy cf (gA σ 323 0) (gA σ 325 0) → UX cf σ τ → Fr mCm σ τ → RK τ → Q τ)
    (hQ2 : R = [] → ∀ τ dk' db', PR tv cf τ dk' db' L (AM db' L, gI τ 203 0) [] r (B + 402) → AM db' L = AM db L → FIo cf σ τ Old → Fr mCf σ τ → RK τ → Q τ) : wp_Store_commitStep cf tv 0 Q σ := by
  have hR : 0 ≤ cf.2.2 ∧ cf.2.2 ≤ 4 := hc.2.2
  have hBl : 24 ≤ cf.1 ∧ cf.1 ≤ 64 := hc.1
  obtain ⟨σc, l, z, c, lg, lr, sM, nx, tn, tp, bl, s, s', b0, lr2, f, W, G, NW, hI, ⟨hD, hb0⟩, hCI, ⟨hG1, hG2, hG3⟩, hNB, hlr, hFX, hF2, hbl, ⟨hw0, hcm⟩, ⟨hcB, hsR, hlB⟩, hH1, hXO, hEX⟩ := h
  have hI0 := hI
  obtain ⟨hS, ⟨hL, hkm⟩, hnx, ⟨hs1, hs2⟩, ⟨ho1, ho2⟩, hB0⟩ := hI
  have hlg : lg = 2 ∨ lg = 3 := hFX.1.1.1
  have hc0 := hFX.1.1.2
  refine sp_commitStep hc hS hD hB (by omega) (by omega) hG1 hL hs1 ⟨hs2, by omega⟩ hnx hCI (fun τ dk' db' x R' f' NW' e S1 D1 I1 fs1 s1 rm1 kk1 lg1 dke fr1 k1 => ?_) (fun e τ dk' db' S1 D1 E1 k1 => ?_)
  · have am : AM db' L = AM db L := AM.grow hS.2.1.2.2 (fun e he p p0 p1 => by
      have q := hS.2.1.2.2 e he
      exact (lg1.1 _ (by omega) q.1.2).2.2 p (by have := q.2.2.2.2.2.2; omega))
    have fi : ∀ g, (g = 203 ∨ g = 218 ∨ g = 205 ∨ g = 213 ∨ g = 209 ∨ g = 211) → gI τ g 0 = gI σ g 0 := fun g hg => fr1.i _ _ (fun q => by unfold mCm mMd mRow mRm mWc mSf mWr mBw mMv at q; omega)
    have fw : ∀ g w, (w = 0 ∨ w = 2) → (g = 451 ∨ g = 452) → gI τ g w = gI σ g w := fun g w hw hg => fr1.i _ _ (fun q => by unfold mCm mMd mRow mRm mWc mSf mWr mBw mMv at q; omega)
    have fa : ∀ g, (g = 217 ∨ g = 210) → gA τ g 0 = gA σ g 0 := fun g hg => fr1.a _ _ (fun q => by unfold mCm mMd mRow mRm mWc mSf mWr mBw mMv at q; omega)
    have dg := lg1.dg hS
    have n4 : gI τ 451 4 ≠ -1 → ∀ m, gA σ 323 0 m ≠ 0 → m ≠ gI σ 451 4 → m ≠ gI τ 451 4 := fun _ m hm ne z => by
      rcases dke.2 with ⟨q1, q2, q3, q4, q5⟩ | ⟨q1, q2, q3, q4, q5, q6⟩
      · exact ne (by rw [z, q2])
      · exact hm (by rw [z]; exact q3)
    have n4' : ∀ m, 0 ≤ m → gA σ 323 0 m ≠ 0 → m ≠ gI σ 451 4 → m ≠ gI τ 451 4 := fun m m0 hm ne => by
      by_cases q : gI τ 451 4 = -1
      · omega
      · exact n4 q m hm ne
    have brg := bR.rng hFX.2.1.2.1
    have bls : ∀ b, b ∈ bl → lmF dk' b.1 = lmF dk b.1 := fun b hb => by
      obtain ⟨y1, y2, y3⟩ := hbl b hb
      have rg := brg b hb
      unfold lmF
      rw [dke.1 b.1 y2 (n4' b.1 (by omega) y1 y2)]
    have jns : gI σ 451 0 ≠ -1 → lmF dk' (gI σ 451 0) = lmF dk (gI σ 451 0) := fun q => by
      have a := hS.rn (w := 0) (Or.inl rfl) q
      have b := S1.rn (w := 0) (Or.inl rfl) (by rw [fw _ 0 (by omega) (by omega)]; exact q)
      rw [fw 451 0 (by omega) (by omega), fw 452 0 (by omega) (by omega)] at b
      unfold lmF
      omega
    have le : (R.length : Int) = R'.length + 1 := by rw [e, List.length_cons]; omega
    have fx' := ((hFX.dg hc dg (fun m m0 m1 => lg1.2 m m0 (by omega)) bls jns).x (show s ≤ s + 1 by omega))
    have f2' := ((hF2.dg hc hlg dg (fun n0 _ _ => jns (by omega))).x (show s ≤ s + 1 by omega))
    have dl : dk' (5 - lg) = dk (5 - lg) := lg1.2 _ (by omega) (by omega)
    refine hQ1 τ dk' db' x R' e ⟨σc, l, z, c, lg, lr, sM, nx, tn, tp, bl, s + 1, s', b0, lr2, f', _, G, NW', ⟨S1, ⟨hL, by rw [am]; exact hkm⟩, by rw [fi _ (by omega)]; exact hnx, ⟨s1, by omega⟩, ?_, hB0.1, hB0.2.lg hS lg1 (by omega) hR.1⟩, ⟨D1, hb0⟩, I1, ⟨hG1, hG2, ?_⟩, hNB.grow (cf := cf) dl (fun p p0 p1 => (dg (5 - lg) (by omega) (by omega) (by omega)).2.1 p p0 p1) (fun g hg => ?_) (fa _ (by omega)) (by omega), ⟨hlr.1, hlr.2.1, by omega⟩, ?_, ?_, fun b hb => ?_, ⟨by rw [fi _ (by omega)]; exact hw0, by rw [fi _ (by omega)]; exact hcm⟩, ⟨hcB, by omega, hlB⟩, dke.2.hd hH1 hR.1 (fw _ 0 (by omega) (by omega)) (fw _ 2 (by omega) (by omega)), hXO.st hFX.1 hS hc (fun b hb => ⟨by have := brg b hb; omega, (hbl b hb).1⟩) (fun m m0 hu hx => ?_), EXn.ux hEX hFX.1 hS hc (dke.2.ux hS hR.1)⟩ am rm1 (dke.2.ux hS hR.1) fr1 k1
    · unfold orL
      rw [fa _ (by omega), fi _ (by omega), am]
      exact ⟨ho1, ho2⟩
    · rw [show W + szK (gI σ 577 x) + fS τ R' = W + fS σ R by omega]; exact hG3
    · rcases hg with w | w | w | w
      · rw [w]; exact fw _ 0 (by omega) (by omega)
      · rw [w]; exact fw _ 0 (by omega) (by omega)
      · rw [w]; exact fi _ (by omega)
      · rw [w]; exact fi _ (by omega)
    · rw [am, fi _ (by omega), fw _ 0 (by omega) (by omega)]; exact fx'
    · rw [fw _ 0 (by omega) (by omega)]; exact f2'
    · obtain ⟨y1, y2, y3⟩ := hbl b hb
      have rg := brg b hb
      refine ⟨?_, n4' b.1 (by omega) y1 y2, by rw [fw _ 2 (by omega) (by omega)]; exact y3⟩
      rcases dke.2 with ⟨q1, q2, q3, q4, q5⟩ | ⟨q1, q2, q3, q4, q5, q6⟩
      · rw [q4]; exact y1
      · rw [q5 _ (by omega), if_neg (n4' b.1 (by omega) y1 y2), if_neg y2]; exact y1
    · rcases dke.2 with ⟨q1, q2, q3, q4, q5⟩ | ⟨q1, q2, q3, q4, q5, q6⟩
      · rw [q5]; exact hx
      · rw [q6]
        unfold upF
        rw [if_neg (fun e => by rw [e] at hu; exact hu q3)]; exact hx
  · have hcb := hCI.2.1
    have ff : ∀ x, x ∈ krt σ 0 → gI σ 584 x = 0 := fun x hx => by
      apply Classical.byContradiction
      intro w
      have := (hCI.1.1.2.1 x).mpr ⟨hx, w⟩
      rw [e] at this
      exact absurd this List.not_mem_nil
    have cfo := E1.cf hS S1 ff hcb.1 hCI.2.2.2 hc (by omega)
    have ro := E1.room hc hS S1 (f := f) (W := W) (G := G) (NW := NW) (Old := Old) (by
      have := hCI.2.2.1
      rw [e] at this
      exact this)
    have fS0 : fS σ R = 0 := by rw [e]; rfl
    rw [fS0, Int.add_zero] at hG3
    have l0 : (R.length : Int) = 0 := by rw [e]; rfl
    have am := cfo.2.2.2.2.2.2.2.2
    obtain ⟨ux, hd⟩ := E1.ux hS hR.1 hH1
    exact hQ2 e τ dk' db' (P1.fin hc hI0 S1 D1 cfo ro ⟨hcb.2.1.1, hcb.2.1.2.2.2.1⟩ hNB ⟨by omega, hlr.2.2⟩ hw0 ⟨hc0.1, hcB, hB⟩ ⟨by omega, hlB⟩ hd) am ⟨fun q => ⟨by
      have a1 := ro.1
      rcases hG2 with w | w
      · omega
      · have := ro.2.2.1 w
        omega, q⟩, fun q => by
      have := ro.2.2.1 q
      omega, ro.2.1, ro.2.2.2.2, cfo.2.2.1.2.2.1, ux⟩ cfo.2.2.2.2.2.2.2.1 k1
theorem P1.len {tv : Nat → Int} {cf : Cf} {σ : St} {dk : Int → Int} {db : Int → Int → Int} {B : Int} {r : RT} {L : List (Int × Int × Int × Int × Int × Int)} {R Old : List Int} (h : P1 tv cf σ dk db L r B R Old) : gI σ 221 0 - gI σ 222 0 = R.length ∧ gI σ 213 0 = 1 := by
  obtain ⟨σc, l, z, c, lg, lr, sM, nx, tn, tp, bl, s, s', b0, lr2, f, W, G, NW, hI, -, hCI, -, -, -, -, -, -, ⟨-, hcm⟩, -⟩ := h
  obtain ⟨⟨-, -, D, -, l6, l7, -⟩, -⟩ := hCI
  exact ⟨by omega, hcm⟩
theorem sp_finishP {tv : Nat → Int} {cf : Cf} {σ : St} {dk : Int → Int} {db : Int → Int → Int} {B : Int} {r : RT} {L : List (Int × Int × Int × Int × Int × Int)} {R Old : List Int} {Q : St → Prop} (hc : CfOK cf) (h : P1 tv cf σ dk db L r B R Old) (hB : B + 402 < 1073741000)
    (hQ : ∀ τ dk' db', PR tv cf τ dk' db' L (AM db' L, gI τ 203 0) [] r (B + 402) → AM db' L = AM db L → FIo cf σ τ Old → Fr mCf σ τ → RK τ → Q τ) : wp_Store_finish cf tv 0 Q σ := by
  unfold wp_Store_finish
  refine lQ0_rule (fun τ => (∃ dk1 db1 R1, P1 tv cf τ dk1 db1 L r B R1 Old ∧ AM db1 L = AM db L ∧ rmy cf (gA τ 323 0) (gA τ 325 0) = rmy cf (gA σ 323 0) (gA σ 325 0) ∧ UX cf σ τ ∧ Fr mCf σ τ) ∨ (gI τ 213 0 = 0 ∧ Q τ)) (fun τ => if gI τ 213 0 = 0 then 0 else (gI τ 221 0 - gI τ 222 0).toNat + 1) ?_ σ (Or.inl ⟨dk, db, R, h, rfl, rfl, UX.rf _ _, Fr.rf _ _⟩)
  intro K τ hI hK
  unfold wp_Store_finish_L0
  rcases hI with ⟨dk1, db1, R1, p1, am1, rm1, ux1, fr1⟩ | ⟨c0, q⟩
  · obtain ⟨pl, pc⟩ := p1.len
    refine ⟨fun w => absurd w (by omega), fun _ => ?_⟩
    refine sp_stepP hc p1 hB (fun υ dk2 db2 x R' e p2 am2 rm2 ux2 fr2 k2 _ => ?_) (fun e υ dk2 db2 p2 am2 fi2 fr2 k2 _ => ?_)
    · obtain ⟨pl2, pc2⟩ := p2.len
      refine hK υ (Or.inl ⟨dk2, db2, R', p2, am2.trans am1, rm2.trans rm1, ux1.tr ux2, fr1.tr (fr2.mono (fun f o' q => Or.inl q))⟩) ?_
      rw [if_neg (by omega), if_neg (by omega), pl, pl2, e, List.length_cons]
      omega
    · have c0 : gI υ 213 0 = 0 := by
        obtain ⟨σc, l, z, c, lg, lr, sM, nx, tn, tp, bl, s, s', b0, V, jn, sJ, -, -, -, -, -, -, ⟨-, q⟩, -⟩ := p2.1
        exact q
      refine hK υ (Or.inr ⟨c0, hQ υ dk2 db2 p2 (am2.trans am1) (fi2.pre rm1 ux1) (fr1.tr fr2) k2⟩) ?_
      rw [if_pos c0, if_neg (by omega)]
      omega
  · exact ⟨fun _ => q, fun w => absurd c0 w⟩
theorem sp_beginP {tv : Nat → Int} {cf : Cf} {σ : St} {dk : Int → Int} {db : Int → Int → Int} {B : Int} {r : RT} {L : List (Int × Int × Int × Int × Int × Int)} {S' : List (Int × Int × Int × (Int → Int)) × Int} {W0 : List (Int × (List (Int × Int × Int × (Int → Int)) × Int))} {Q : St → Prop} (hc : CfOK cf) (h : PR tv cf σ dk db L S' W0 r B) (hE : whl cf ≤ emp cf (gA σ 323 0)) (hf : flu σ 0) (hB : B + 6 < 1073741000)
    (hQ : ∀ τ dk' db' R Old, P1 tv cf τ dk' db' L r (B + 6) R Old → AM db' L = AM db L → ((∀ x, x ∈ krt σ 0 → gI σ 584 x ≠ 0) → Old = []) → BGo cf σ τ dk dk' db db' (gI σ 208 0) → RK τ → Q τ) : wp_Store_beginCommit cf tv 0 Q σ := by
  have hR : 0 ≤ cf.2.2 ∧ cf.2.2 ≤ 4 := hc.2.2
  have hBl : 24 ≤ cf.1 ∧ cf.1 ≤ 64 := hc.1
  obtain ⟨σc, l, z, c, lg, lr, sM, nx, tn, tp, bl, s, s', b0, V, jn, sJ, hI, ⟨hD, hb0⟩, hO, hFX, hJ, hBD, ⟨hlo, hcm⟩, ⟨hcB, hsB, hsJ, hsd⟩, hV, hHD, hXO⟩ := h.1
  obtain ⟨hS, ⟨hL, hkm⟩, hnx, ⟨hs1, hs2⟩, ⟨ho1, ho2⟩, hB0⟩ := hI
  obtain ⟨j1, j2, j3⟩ := hJ.flu hS hf hR.1
  have j0 := h.2
  rw [j1] at j0
  have j0' : S' = (AM db L, gI σ 203 0) := j0
  have lrX := hFX.lr
  have hlr0 : 0 ≤ lr := hFX.2.1.2.2.2.2.1.1
  have hlg : lg = 2 ∨ lg = 3 := hFX.1.1.1
  have el : gI σ 208 0 = lg := hO.1.1
  refine sp_beginCommit hc hS hD hB hL (hS.cap hkm).1 hs1 ⟨hs2, by omega⟩ (hO.bcn hf) hE (fun τ dk' db' R NW Old G S1 D1 I1 g1 g2 g3 g4 n1 b1 k1 => ?_)
  have lp := I1.2.1.2.2.1
  have fx := BGo.fx hc hS S1 hO hf hFX hJ hBD b1 n1 lp
  have fr := b1.2.2.2.2.2.2
  have am : AM db' L = AM db L := AM.grow hS.2.1.2.2 (fun e he p p0 p1 => by
    have q := hS.2.1.2.2 e he
    exact (b1.1 _ (by omega) q.1.2 (by omega)).2.2.2 p (by have := q.2.2.2.2.2.2; omega))
  have es' : ES db' L (gI τ 202 0) := (hB0.2.g (fun e he p p0 p1 => by
    have q := hS.2.1.2.2 e he
    have nn := q.2.1.n
    exact (b1.1 _ (by omega) q.1.2 (by omega)).2.2.2 p (by have := q.2.2.2.2.2.2; omega))).le (by
      rcases n1.2 with q | q
      · have := q.2.2.1; omega
      · have := q.2.2.2.1; omega)
  have fi : ∀ g, (g = 203 ∨ g = 218 ∨ g = 205) → gI τ g 0 = gI σ g 0 := fun g hg => fr.i _ _ (fun q => by unfold mBh mBg mWr mMl mBw mMv mRow mB2 mIx at q; omega)
  have fn : ∀ w, (w = 0 ∨ w = 2 ∨ w = 4) → gI τ 451 w = gI σ 451 w := fun w hw => fr.i _ _ (fun q => by unfold mBh mBg mWr mMl mBw mMv mRow mB2 mIx at q; omega)
  have oa : gA τ 217 0 = gA σ 217 0 := fr.a _ _ (fun q => by unfold mBh mBg mWr mMl mBw mMv mRow mB2 mIx at q; omega)
  have sr : s + 1 ≤ gI τ 202 0 ∧ gI τ 202 0 ≤ s + 2 := by
    rcases n1.2 with q | q
    · have := q.2.2.1; omega
    · have := q.2.2.2.1; omega
  have Rl : (R.length : Int) ≤ 320 := by
    obtain ⟨⟨-, -, D, -, -, l7, l8⟩, -⟩ := I1
    omega
  have f2 : F2c tv cf dk' db' σc l z tn c lg (s + 1) (gI τ 202 0) (gI τ 451 0) := by
    rcases fx.2.2 with q | q
    · exfalso
      have a := lp.1
      have b := lp.2.2.2.2.1
      omega
    · exact q.1
  rw [j0'] at fx
  refine hQ τ dk' db' R Old ⟨σc, l, z, c, lg, lr, sM, nx, tn, tp, bl, gI τ 202 0, s', b0, s + 1, 0, 0, G, NW, ⟨S1, ⟨hL, by rw [am]; exact hkm⟩, by rw [fi _ (by omega)]; exact hnx, ⟨rfl, by omega⟩, ?_, by omega, es'⟩, ⟨D1, hb0⟩, I1, ⟨g1, g2, by rw [Int.zero_add]; exact g4⟩, ?_, ⟨hlr0, by omega, sr.1⟩, ?_, f2, fun b hb => ?_, ⟨by rw [fi _ (by omega)]; exact j2, b1.2.2.2.2.2.1⟩, ⟨by omega, by omega, by omega⟩, fun m m0 m1 hm => ?_, hXO.fr (fr.a 325 0 (fun q => by unfold mBh mBg mWr mMl mBw mMv mRow mB2 mIx at q; omega)) rfl, EXn.of (by have := b1.2.2.1.1.1; omega)⟩ am g3 (by rw [el]; exact b1) k1
  · unfold orL
    rw [oa, fi _ (by omega), am]
    exact ⟨ho1, ho2⟩
  · refine ⟨n1.1, ?_⟩
    rcases n1.2 with q | ⟨q1, q2, q3, q4, q5⟩
    · exact Or.inl ⟨q.1, q.2.1, q.2.2.2⟩
    · exact Or.inr ⟨q1, q2, ⟨s + 2, q3, by omega, by omega⟩, q5⟩
  · rw [am, fi _ (by omega)]; exact fx
  · obtain ⟨k, kk1, kk2⟩ := hBD.at hb
    obtain ⟨y1, y2, y3⟩ := hO.2.2.2.2.2.1.2 k kk1.1 kk1.2
    rw [kk2] at y1 y2 y3
    rw [fn 4 (by omega), fn 2 (by omega)]
    have hw4 := fun (q : gI σ 451 0 ≠ -1) => hS.1.1.all.2 0 4 (Or.inl rfl) (Or.inr (Or.inr rfl)) (by omega) q
    have hw2 := fun (q : gI σ 451 0 ≠ -1) => hS.1.1.all.2 0 2 (Or.inl rfl) (Or.inr (Or.inl rfl)) (by omega) q
    refine ⟨?_, fun w => ?_, fun w => ?_⟩
    · rcases b1.2.2.2.1 b.1 with q | q
      · rw [q]; exact y2
      · omega
    · rcases y3 with y | y
      · exact hw4 (by omega) (by omega)
      · exact y ⟨4, Or.inr (Or.inr rfl), w.symm⟩
    · rcases y3 with y | y
      · exact hw2 (by omega) (by omega)
      · exact y ⟨2, Or.inr (Or.inl rfl), w.symm⟩
  · rcases b1.2.2.2.1 m with q | q
    · have hm2 : gA σ 323 0 m = 2 := by rw [← q]; exact hm
      rcases hHD m m0 m1 hm2 with ⟨w, w1, w2⟩ | ⟨k, kk1, kk2⟩
      · exact ⟨w, w1, by rw [fn w (by unfold isW at w1; omega)]; exact w2⟩
      · by_cases e : gA σ 210 0 k = gI σ 451 0
        · exact ⟨0, Or.inl rfl, by rw [fn 0 (by omega), ← e]; exact kk2⟩
        · have := b1.2.2.2.2.1 k kk1.1 kk1.2 e
          rw [kk2] at this
          omega
    · omega
theorem P1.bud {tv : Nat → Int} {cf : Cf} {σ : St} {dk : Int → Int} {db : Int → Int → Int} {B : Int} {r : RT} {L : List (Int × Int × Int × Int × Int × Int)} {R Old : List Int} (h : P1 tv cf σ dk db L r B R Old) (hn : gI σ 451 0 = -1) : gI σ 211 0 = 0 := by
  obtain ⟨σc, l, z, c, lg, lr, sM, nx, tn, tp, bl, s, s', b0, lr2, f, W, G, NW, -, -, -, -, hNB, -⟩ := h
  rcases hNB.2 with q | q
  · exact q.2.2
  · exact absurd hn q.1
/-- the beginning of a commit when there is no bud leaves numbers as they are -/
theorem BGo.ux {tv : Nat → Int} {cf : Cf} {σ τ : St} {dk dk' : Int → Int} {db db' : Int → Int → Int} {L : List (Int × Int × Int × Int × Int × Int)} {lO : Int} (h : BGo cf σ τ dk dk' db db' lO) (hT : SA tv cf τ dk' db' L) (hS : SA tv cf σ dk db L) (hH : HDv cf σ) (hb : gI σ 211 0 = 0) (h0 : 0 ≤ cf.2.2) : UX cf σ τ := fun m m0 m1 q => by
  have fr := h.2.2.2.2.2.2
  rw [fr.a 325 0 (fun q => by unfold mBh mBg mWr mMl mBw mMv mRow mB2 mIx at q; omega)] at q
  refine ⟨q, Or.inl ?_⟩
  rcases h.2.2.2.1 m with e | ⟨e1, e2⟩
  · exact e
  · have u := (hS.2.2.1 m m0 m1).1
    have : gA σ 323 0 m = 1 ∨ gA σ 323 0 m = 2 := by omega
    rcases this with w | w
    · rw [e1, w]
    · rcases hH m m0 m1 w with ⟨v, v1, v2⟩ | ⟨k, k1, -⟩
      · exfalso
        have nv : gI τ 451 v = gI σ 451 v := fr.i _ _ (fun q => by unfold isW at v1; unfold mBh mBg mWr mMl mBw mMv mRow mB2 mIx at q; omega)
        have rg := hS.1.1.all.1 v v1
        have := (hT.2.2.2.1 v v1 (by rw [nv, v2]; intro z; rw [z] at m0; omega)).1
        rw [nv, v2] at this
        omega
      · omega
def UXw (cf : Cf) (σ τ : St) : Prop := ∀ m, 4 + cf.2.2 ≤ m → m < cf.1 - 6 → gA τ 325 0 m = 0 → gA σ 325 0 m = 0 ∧ (gA τ 323 0 m = gA σ 323 0 m ∨ gA τ 323 0 m = 0 ∨ (gA τ 323 0 m = 1 ∧ gA σ 323 0 m ≠ 0))
theorem UXw.tr {cf : Cf} {σ ρ τ : St} (h : UXw cf σ ρ) (k : UX cf ρ τ) : UXw cf σ τ := fun m m0 m1 q => by
  obtain ⟨a, b⟩ := k m m0 m1 q
  obtain ⟨c, d⟩ := h m m0 m1 a
  refine ⟨c, ?_⟩
  rcases b with b | b
  · rw [b]; exact d
  · exact Or.inr (Or.inl b)
theorem BGo.uxw {cf : Cf} {σ τ : St} {dk dk' : Int → Int} {db db' : Int → Int → Int} {lO : Int} (h : BGo cf σ τ dk dk' db db' lO) : UXw cf σ τ := fun m m0 m1 q => by
  have fr := h.2.2.2.2.2.2
  rw [fr.a 325 0 (fun q => by unfold mBh mBg mWr mMl mBw mMv mRow mB2 mIx at q; omega)] at q
  refine ⟨q, ?_⟩
  rcases h.2.2.2.1 m with e | e
  · exact Or.inl e
  · exact Or.inr (Or.inr e)
