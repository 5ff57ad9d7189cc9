/-! a commit of which the flash tells nothing yet (format, settle) -/
def PF (tv : Nat → Int) (cf : Cf) (σ : St) (dk : Int → Int) (db : Int → Int → Int) (L : List (Int × Int × Int × Int × Int × Int)) (r : RT) (B c lg lr2 : Int) (R Old : List Int) : Prop :=
  ∃ (s c0 b0 f W G : Int) (NW : List Int), SIc tv cf σ dk db L s B ∧ (DJ tv cf σ 0 dk db (SpC cf c0 b0 r) B ∧ b0 ≤ lr2 ∧ c0 ≤ c + 1) ∧ CI tv cf σ dk db L (c + 1) lg lr2 s f W G R NW Old ∧ (0 ≤ G ∧ (G = whl cf + 1 ∨ Old = []) ∧ cst cf (W + fS σ R) ≤ whl cf) ∧ NBp tv σ dk db lg lr2 s ∧ (0 ≤ lr2 ∧ lr2 ≤ s) ∧ (gI σ 205 0 = 0 ∧ gI σ 213 0 = 1) ∧ (0 ≤ c ∧ c ≤ B ∧ s + R.length ≤ lr2 + 330 ∧ lr2 ≤ 1000000 * B + 1) ∧ HD1 cf σ
theorem sp_stepF {tv : Nat → Int} {cf : Cf} {σ : St} {dk : Int → Int} {db : Int → Int → Int} {B c lg lr2 : Int} {r : RT} {L : List (Int × Int × Int × Int × Int × Int)} {R Old : List Int} {Q : St → Prop} (hc : CfOK cf) (h : PF tv cf σ dk db L r B c lg lr2 R Old) (hB : B + 402 < 1073741000)
    (hQ1 : ∀ τ dk' db' x R', R = x :: R' → PF tv cf τ dk' db' L r B c lg lr2 R' Old → AM db' L = AM db L → rmy cf (gA τ 323 0) (gA τ 325 0) = rmy cf (gA σ 323 0) (gA σ 325 0) → UX cf σ τ → Fr mCm σ τ → RK τ → Q τ)
    (hQ2 : R = [] → ∀ τ dk' db', PR tv cf τ dk' db' L (AM db' L, gI τ 203 0) [] r (B + 402) → AM db' L = AM db L → FIo cf σ τ Old → Fr mCf σ τ → RK τ → Q τ) : wp_Store_commitStep cf tv 0 Q σ := by
  have hR : 0 ≤ cf.2.2 ∧ cf.2.2 ≤ 4 := hc.2.2
  have hBl : 24 ≤ cf.1 ∧ cf.1 ≤ 64 := hc.1
  obtain ⟨s, c0, b0, f, W, G, NW, hI, ⟨hD, hb0, hc0⟩, hCI, ⟨hG1, hG2, hG3⟩, hNB, hlr, ⟨hw0, hcm⟩, ⟨hc00, hcB, hsR, hlB⟩, hH1⟩ := h
  have hI0 := hI
  obtain ⟨hS, ⟨hL, hkm⟩, hnx, ⟨hs1, hs2⟩, ⟨ho1, ho2⟩, hB0⟩ := hI
  have hlg : lg = 2 ∨ lg = 3 := hCI.2.1.2.1.2.1
  refine sp_commitStep hc hS hD hB (by omega) hb0 hG1 hL hs1 ⟨hs2, by omega⟩ hnx hCI (fun τ dk' db' x R' f' NW' e S1 D1 I1 fs1 s1 rm1 kk1 lg1 dke fr1 k1 => ?_) (fun e τ dk' db' S1 D1 E1 k1 => ?_)
  · have am : AM db' L = AM db L := AM.grow hS.2.1.2.2 (fun e he p p0 p1 => by
      have q := hS.2.1.2.2 e he
      exact (lg1.1 _ (by omega) q.1.2).2.2 p (by have := q.2.2.2.2.2.2; omega))
    have fi : ∀ g, (g = 203 ∨ g = 218 ∨ g = 205 ∨ g = 213 ∨ g = 209 ∨ g = 211) → gI τ g 0 = gI σ g 0 := fun g hg => fr1.i _ _ (fun q => by unfold mCm mMd mRow mRm mWc mSf mWr mBw mMv at q; omega)
    have fw : ∀ g w, (w = 0 ∨ w = 2) → (g = 451 ∨ g = 452) → gI τ g w = gI σ g w := fun g w hw hg => fr1.i _ _ (fun q => by unfold mCm mMd mRow mRm mWc mSf mWr mBw mMv at q; omega)
    have fa : ∀ g, (g = 217 ∨ g = 210) → gA τ g 0 = gA σ g 0 := fun g hg => fr1.a _ _ (fun q => by unfold mCm mMd mRow mRm mWc mSf mWr mBw mMv at q; omega)
    have dg := lg1.dg (tv := tv) hS
    have le : (R.length : Int) = R'.length + 1 := by rw [e, List.length_cons]; omega
    have dl : dk' lg = dk lg := lg1.2 _ (by omega) (by omega)
    refine hQ1 τ dk' db' x R' e ⟨s + 1, c0, b0, f', _, G, NW', ⟨S1, ⟨hL, by rw [am]; exact hkm⟩, by rw [fi _ (by omega)]; exact hnx, ⟨s1, by omega⟩, ?_, hB0.1, hB0.2.lg hS lg1 (by omega) hR.1⟩, ⟨D1, hb0, hc0⟩, I1, ⟨hG1, hG2, ?_⟩, hNB.grow (cf := cf) dl (fun p p0 p1 => (dg lg (by omega) (by omega) (by omega)).2.1 p p0 p1) (fun g hg => ?_) (fa _ (by omega)) (by omega), ⟨hlr.1, by omega⟩, ⟨by rw [fi _ (by omega)]; exact hw0, by rw [fi _ (by omega)]; exact hcm⟩, ⟨hc00, hcB, by omega, hlB⟩, dke.2.hd hH1 hR.1 (fw _ 0 (by omega) (by omega)) (fw _ 2 (by omega) (by omega))⟩ am rm1 (dke.2.ux hS hR.1) fr1 k1
    · unfold orL
      rw [fa _ (by omega), fi _ (by omega), am]
      exact ⟨ho1, ho2⟩
    · rw [show W + szK (gI σ 577 x) + fS τ R' = W + fS σ R by omega]; exact hG3
    · rcases hg with w | w | w | w
      · rw [w]; exact fw _ 0 (by omega) (by omega)
      · rw [w]; exact fw _ 0 (by omega) (by omega)
      · rw [w]; exact fi _ (by omega)
      · rw [w]; exact fi _ (by omega)
  · have hcb := hCI.2.1
    have ff : ∀ x, x ∈ krt σ 0 → gI σ 584 x = 0 := fun x hx => by
      apply Classical.byContradiction
      intro w
      have := (hCI.1.1.2.1 x).mpr ⟨hx, w⟩
      rw [e] at this
      exact absurd this List.not_mem_nil
    have cfo := E1.cf hS S1 ff hcb.1 hCI.2.2.2 hc (by omega)
    have ro := E1.room hc hS S1 (f := f) (W := W) (G := G) (NW := NW) (Old := Old) (by
      have := hCI.2.2.1
      rw [e] at this
      exact this)
    have fS0 : fS σ R = 0 := by rw [e]; rfl
    rw [fS0, Int.add_zero] at hG3
    have l0 : (R.length : Int) = 0 := by rw [e]; rfl
    have am := cfo.2.2.2.2.2.2.2.2
    obtain ⟨ux, hd⟩ := E1.ux hS hR.1 hH1
    exact hQ2 e τ dk' db' (P1.fin hc hI0 S1 D1 cfo ro ⟨hcb.2.1.1, hcb.2.1.2.2.2.1⟩ hNB ⟨by omega, hlr.2⟩ hw0 ⟨hc00, hcB, hB⟩ ⟨by omega, hlB⟩ hd) am ⟨fun q => ⟨by
      have a1 := ro.1
      rcases hG2 with w | w
      · omega
      · have := ro.2.2.1 w
        omega, q⟩, fun q => by
      have := ro.2.2.1 q
      omega, ro.2.1, ro.2.2.2.2, cfo.2.2.1.2.2.1, ux⟩ cfo.2.2.2.2.2.2.2.1 k1
theorem PF.len {tv : Nat → Int} {cf : Cf} {σ : St} {dk : Int → Int} {db : Int → Int → Int} {B c lg lr2 : Int} {r : RT} {L : List (Int × Int × Int × Int × Int × Int)} {R Old : List Int} (h : PF tv cf σ dk db L r B c lg lr2 R Old) : gI σ 221 0 - gI σ 222 0 = R.length ∧ gI σ 213 0 = 1 := by
  obtain ⟨s, c0, b0, f, W, G, NW, hI, -, hCI, -, -, -, ⟨-, hcm⟩, -⟩ := h
  obtain ⟨⟨-, -, D, -, l6, l7, -⟩, -⟩ := hCI
  exact ⟨by omega, hcm⟩
theorem sp_finishF {tv : Nat → Int} {cf : Cf} {σ : St} {dk : Int → Int} {db : Int → Int → Int} {B c lg lr2 : Int} {r : RT} {L : List (Int × Int × Int × Int × Int × Int)} {R Old : List Int} {Q : St → Prop} (hc : CfOK cf) (h : PF tv cf σ dk db L r B c lg lr2 R Old) (hB : B + 402 < 1073741000)
    (hQ : ∀ τ dk' db', PR tv cf τ dk' db' L (AM db' L, gI τ 203 0) [] r (B + 402) → AM db' L = AM db L → FIo cf σ τ Old → Fr mCf σ τ → RK τ → Q τ) : wp_Store_finish cf tv 0 Q σ := by
  unfold wp_Store_finish
  refine lQ0_rule (fun τ => (∃ dk1 db1 R1, PF tv cf τ dk1 db1 L r B c lg lr2 R1 Old ∧ AM db1 L = AM db L ∧ rmy cf (gA τ 323 0) (gA τ 325 0) = rmy cf (gA σ 323 0) (gA σ 325 0) ∧ UX cf σ τ ∧ Fr mCf σ τ) ∨ (gI τ 213 0 = 0 ∧ Q τ)) (fun τ => if gI τ 213 0 = 0 then 0 else (gI τ 221 0 - gI τ 222 0).toNat + 1) ?_ σ (Or.inl ⟨dk, db, R, h, rfl, rfl, UX.rf _ _, Fr.rf _ _⟩)
  intro K τ hI hK
  unfold wp_Store_finish_L0
  rcases hI with ⟨dk1, db1, R1, p1, am1, rm1, ux1, fr1⟩ | ⟨c0, q⟩
  · obtain ⟨pl, pc⟩ := p1.len
    refine ⟨fun w => absurd w (by omega), fun _ => ?_⟩
    refine sp_stepF hc p1 hB (fun υ dk2 db2 x R' e p2 am2 rm2 ux2 fr2 k2 _ => ?_) (fun e υ dk2 db2 p2 am2 fi2 fr2 k2 _ => ?_)
    · obtain ⟨pl2, pc2⟩ := p2.len
      refine hK υ (Or.inl ⟨dk2, db2, R', p2, am2.trans am1, rm2.trans rm1, ux1.tr ux2, fr1.tr (fr2.mono (fun f o' q => Or.inl q))⟩) ?_
      rw [if_neg (by omega), if_neg (by omega), pl, pl2, e, List.length_cons]
      omega
    · have c0 := (PR.cm p2.1).2.1
      refine hK υ (Or.inr ⟨c0, hQ υ dk2 db2 p2 (am2.trans am1) (fi2.pre rm1 ux1) (fr1.tr fr2) k2⟩) ?_
      rw [if_pos c0, if_neg (by omega)]
      omega
  · exact ⟨fun _ => q, fun w => absurd c0 w⟩
theorem sp_commitF {tv : Nat → Int} {cf : Cf} {σ : St} {dk : Int → Int} {db : Int → Int → Int} {B s c0 b0 cO lO : Int} {r : RT} {L : List (Int × Int × Int × Int × Int × Int)} {Q : St → Prop} (hc : CfOK cf) (hI : SIc tv cf σ dk db L s B) (hD : DJ tv cf σ 0 dk db (SpC cf c0 b0 r) B) (hN : BCn tv cf σ dk db L c0 cO lO s) (hb : b0 ≤ s ∧ c0 ≤ cO + 1) (hE : whl cf ≤ emp cf (gA σ 323 0)) (hw : gI σ 205 0 = 0 ∧ gI σ 213 0 = 0) (hcB : cO ≤ B ∧ s ≤ 1000000 * B) (hH : HD1 cf σ) (hB : B + 408 < 1073741000)
    (hQ : ∀ τ dk' db', PR tv cf τ dk' db' L (AM db' L, gI τ 203 0) [] r (B + 408) → AM db' L = AM db L → rmy cf (gA σ 323 0) (gA σ 325 0) ≤ rmy cf (gA τ 323 0) (gA τ 325 0) → (2 * whl cf + 2 ≤ rmy cf (gA τ 323 0) (gA τ 325 0) → rom cf τ (whl cf + 1) (2 * whl cf + 2)) → Fr mCw σ τ → RK τ → Q τ) : wp_Store_commitAll cf tv 0 Q σ := by
  have hR : 0 ≤ cf.2.2 ∧ cf.2.2 ≤ 4 := hc.2.2
  have hBl : 24 ≤ cf.1 ∧ cf.1 ≤ 64 := hc.1
  obtain ⟨hS, ⟨hL, hkm⟩, hnx, ⟨hs1, hs2⟩, ⟨ho1, ho2⟩, hB0, hES⟩ := hI
  have hlO : lO = 2 ∨ lO = 3 := hN.1.2.1
  unfold wp_Store_commitAll
  refine sp_finish0 hw.2 (fun _ => ?_)
  refine sp_beginCommit hc hS hD (by omega) hL (hS.cap hkm).1 hs1 ⟨hs2, by omega⟩ hN hE (fun τ dk' db' R NW Old G S1 D1 I1 g1 g2 g3 g4 n1 b1 k1 _ => ?_)
  have fr := b1.2.2.2.2.2.2
  have am : AM db' L = AM db L := AM.grow hS.2.1.2.2 (fun e he p p0 p1 => by
    have q := hS.2.1.2.2 e he
    exact (b1.1 _ (by omega) q.1.2 (by omega)).2.2.2 p (by have := q.2.2.2.2.2.2; omega))
  have fi : ∀ g, (g = 203 ∨ g = 218 ∨ g = 205) → gI τ g 0 = gI σ g 0 := fun g hg => fr.i _ _ (fun q => by unfold mBh mBg mWr mMl mBw mMv mRow mB2 mIx at q; omega)
  have fn : ∀ w, (w = 0 ∨ w = 2 ∨ w = 4) → gI τ 451 w = gI σ 451 w := fun w hw => fr.i _ _ (fun q => by unfold mBh mBg mWr mMl mBw mMv mRow mB2 mIx at q; omega)
  have oa : gA τ 217 0 = gA σ 217 0 := fr.a _ _ (fun q => by unfold mBh mBg mWr mMl mBw mMv mRow mB2 mIx at q; omega)
  have sr : s + 1 ≤ gI τ 202 0 ∧ gI τ 202 0 ≤ s + 2 := by
    rcases n1.2 with q | q
    · have := q.2.2.1; omega
    · have := q.2.2.2.1; omega
  have es' : ES db' L (gI τ 202 0) := (hES.g (fun e he p p0 p1 => by
    have q := hS.2.1.2.2 e he
    have nn := q.2.1.n
    exact (b1.1 _ (by omega) q.1.2 (by omega)).2.2.2 p (by have := q.2.2.2.2.2.2; omega))).le (by omega)
  have Rl : (R.length : Int) ≤ 320 := by
    obtain ⟨⟨-, -, D, -, -, l7, l8⟩, -⟩ := I1
    omega
  have pf : PF tv cf τ dk' db' L r (B + 6) cO (5 - lO) (s + 1) R Old := by
    refine ⟨gI τ 202 0, c0, b0, 0, 0, G, NW, ⟨S1, ⟨hL, by rw [am]; exact hkm⟩, by rw [fi _ (by omega)]; exact hnx, ⟨rfl, by omega⟩, ?_, by omega, es'⟩, ⟨D1, by omega, hb.2⟩, I1, ⟨g1, g2, by rw [Int.zero_add]; exact g4⟩, ?_, ⟨by omega, sr.1⟩, ⟨by rw [fi _ (by omega)]; exact hw.1, b1.2.2.2.2.2.1⟩, ⟨hN.1.2.2.2.1, by omega, by omega, by omega⟩, fun m m0 m1 hm => ?_⟩
    · unfold orL
      rw [oa, fi _ (by omega), am]
      exact ⟨ho1, ho2⟩
    · refine ⟨n1.1, ?_⟩
      rcases n1.2 with q | ⟨q1, q2, q3, q4, q5⟩
      · exact Or.inl ⟨q.1, q.2.1, q.2.2.2⟩
      · exact Or.inr ⟨q1, q2, ⟨s + 2, q3, by omega, by omega⟩, q5⟩
    · rcases b1.2.2.2.1 m with q | q
      · rw [q] at hm
        obtain ⟨w, w1, w2⟩ := hH m m0 m1 hm
        exact ⟨w, w1, by rw [fn w (by unfold isW at w1; omega)]; exact w2⟩
      · omega
  refine sp_finishF hc pf (by omega) (fun υ dk2 db2 p2 am2 fi2 fr3 k2 _ => ?_)
  refine hQ υ dk2 db2 (by rw [show B + 408 = B + 6 + 402 by omega]; exact p2) (am2.trans am) (by have a := fi2.2.2.1; have b := b1.2.2.1.2; omega) fi2.1 ((fr.mono (fun f o' q => Or.inr q)).tr (fr3.mono (fun f o' q => Or.inl q))) k2
