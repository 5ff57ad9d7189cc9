/-! Store.makeRoom -/
def mMr (f : Nat) (o' : Int) : Prop := mCs f o' ∨ mCw f o' ∨ ((f = 223 ∨ f = 224 ∨ f = 225) ∧ o' = 0)
theorem PR.le {tv : Nat → Int} {cf : Cf} {σ : St} {dk : Int → Int} {db : Int → Int → Int} {L : List (Int × Int × Int × Int × Int × Int)} {S' : List (Int × Int × Int × (Int → Int)) × Int} {W : List (Int × (List (Int × Int × Int × (Int → Int)) × Int))} {r : RT} {B B' : Int} (h : PR tv cf σ dk db L S' W r B) (hB : B ≤ B') (hB' : B' < 1073741000) : PR tv cf σ dk db L S' W r B' := by
  obtain ⟨⟨σc, l, z, c, lg, lr, sv, nx, tn, tp, bl, s, s', b0, V, jn, sJ, ⟨i1, i2, i3, i4, i5, i6, i7⟩, ⟨hD, hb0⟩, hO, hFX, hJ, hBD, hlo, ⟨hcB, hsB, hsJ, hsd⟩, hV, hHD, hXO⟩, hla⟩ := h
  exact ⟨⟨σc, l, z, c, lg, lr, sv, nx, tn, tp, bl, s, s', b0, V, jn, sJ, ⟨i1, i2, i3, i4, i5, by omega, i7⟩, ⟨hD.le hB hB', hb0⟩, hO, hFX, hJ, hBD, hlo, ⟨by omega, by omega, hsJ, hsd⟩, hV, hHD, hXO⟩, hla⟩
/-- other fields of the collector -/
theorem PR.vic {tv : Nat → Int} {cf : Cf} {σ τ : St} {dk : Int → Int} {db : Int → Int → Int} {L : List (Int × Int × Int × Int × Int × Int)} {S' : List (Int × Int × Int × (Int → Int)) × Int} {W : List (Int × (List (Int × Int × Int × (Int → Int)) × Int))} {r : RT} {B : Int} (h : PR tv cf σ dk db L S' W r B) (fr : Fr (fun f o' => (f = 223 ∨ f = 224 ∨ f = 225) ∧ o' = 0) σ τ) (rk : RK τ) (hV : VCl tv cf τ dk db L) : PR tv cf τ dk db L S' W r B := by
  obtain ⟨⟨σc, l, z, c, lg, lr, sv, nx, tn, tp, bl, s, s', b0, V, jn, sJ, ⟨hS, hL, hnx, ⟨hs1, hs2⟩, ho, hB0⟩, ⟨hD, hb0⟩, hO, hFX, hJ, hBD, hlo, hcb, -, hHD, hXO⟩, hla⟩ := h
  have ga : ∀ g w, (g ≠ 223 ∧ g ≠ 224 ∧ g ≠ 225) → gA τ g w = gA σ g w := fun g w hg => fr.a _ _ (fun q => by omega)
  have gn : ∀ g w, (g ≠ 223 ∧ g ≠ 224 ∧ g ≠ 225) → gI τ g w = gI σ g w := fun g w hg => fr.i _ _ (fun q => by omega)
  obtain ⟨kr, ko⟩ := krt_fr (o := 0) fr (fun f x a b q => by omega) (fun q => by omega)
  have hl : ∀ m, hld τ 0 m ↔ hld σ 0 m := fun m => ⟨fun ⟨v, v1, v2⟩ => ⟨v, v1, by rw [← gn _ v (by decide)]; exact v2⟩, fun ⟨v, v1, v2⟩ => ⟨v, v1, by rw [gn _ v (by decide)]; exact v2⟩⟩
  have ee : ∀ m, eE τ 0 dk m = eE σ 0 dk m := fun m => eE_fr fr (fun f w _ a b q => by omega)
  have hO' : ONv tv cf τ dk db L c lg s := by
    obtain ⟨⟨g1, g2, g3, g4⟩, g5, g7, ⟨g8, g9⟩, ⟨g11, g12⟩, ⟨g13, g14⟩, g15, g16⟩ := hO
    refine ⟨⟨by rw [gn _ _ (by decide)]; exact g1, g2, by rw [gn _ _ (by decide)]; exact g3, g4⟩, g5, g7, ⟨fun m m0 m1 hm => ?_, fun x hx hfx => ?_⟩, ⟨?_, by rw [gn _ _ (by decide)]; exact g12⟩, ⟨by rw [gn _ _ (by decide)]; exact g13, fun k k0 k1 => ?_⟩, ?_, ?_⟩
    · rw [ga _ _ (by decide)] at hm; rw [ee m]; exact g8 m m0 m1 hm
    · rw [kr] at hx
      rw [(ko x).2.1] at hfx
      obtain ⟨-, w2, w3, w4⟩ := (ko x).2
      rw [w2, w3]
      exact g9 x hx hfx
    · unfold orL
      rw [ga _ _ (by decide), gn _ _ (by decide)]; exact g11
    · rw [gn _ _ (by decide)] at k1
      obtain ⟨y1, y2, y3⟩ := g14 k k0 k1
      rw [ga _ _ (by decide), ga _ _ (by decide), gn _ _ (by decide)]
      exact ⟨y1, y2, y3.imp id (fun y q => y ((hl _).mp q))⟩
    · have a : nfr τ (krt τ 0) = nfr σ (krt σ 0) := by rw [kr]; exact nfr_ext (fun y _ => (ko y).2.1)
      rw [a, gn _ _ (by decide)]; exact g15
    · rw [ga _ _ (by decide), ga _ _ (by decide), gn _ _ (by decide)]; exact g16
  refine ⟨⟨σc, l, z, c, lg, lr, sv, nx, tn, tp, bl, s, s', b0, V, jn, sJ, ⟨hS.fr fr (fun f o' a q => by unfold mSA isW at a; omega) rk, hL, by rw [gn _ _ (by decide)]; exact hnx, ⟨by rw [gn _ _ (by decide)]; exact hs1, hs2⟩, hO'.2.2.2.2.1, hB0⟩, ⟨hD.fr fr (fun f o' a q => by unfold rBI at a; omega), hb0⟩, hO', hFX, ?_, ?_, ⟨by rw [gn _ _ (by decide)]; exact hlo.1, by rw [gn _ _ (by decide)]; exact hlo.2⟩, hcb, hV, fun m m0 m1 q => ?_, hXO.fr (ga _ _ (by decide)) rfl⟩, by rw [gn _ _ (by decide)]; exact hla⟩
  · unfold JI
    rw [gn 451 _ (by decide), gn 452 _ (by decide), gn 205 _ (by decide), ga 204 _ (by decide)]
    exact hJ
  · unfold BDl
    rw [gn _ _ (by decide), ga _ _ (by decide)]; exact hBD
  · rw [ga _ _ (by decide)] at q
    rcases hHD m m0 m1 q with w | ⟨k, k1, k2⟩
    · exact Or.inl ((hl m).mpr w)
    · exact Or.inr ⟨k, by rw [gn _ _ (by decide)]; exact k1, by rw [ga _ _ (by decide)]; exact k2⟩
/-- behind a round -/
def RDo (cf : Cf) (τ : St) : Prop := rom cf τ (whl cf + 1) (2 * whl cf + 2) ∧ (gI τ 451 0 = -1 ∧ gI τ 223 0 = -1 ∧ gI τ 211 0 = 0) ∧ rmy cf (gA τ 323 0) (gA τ 325 0) ≤ emp cf (gA τ 323 0) + whl cf + 1
theorem sp_roundP {tv : Nat → Int} {cf : Cf} {ρ : St} {dk : Int → Int} {db : Int → Int → Int} {B y1 y2 : Int} {r : RT} {L : List (Int × Int × Int × Int × Int × Int)} {S' : List (Int × Int × Int × (Int → Int)) × Int} {Q : St → Prop} {K4 : Int → Int → St → Prop} (hc : CfOK cf) (h : PR tv cf ρ dk db L S' [] r B) (hn0 : gI ρ 451 0 = -1) (hrom : rom cf ρ (whl cf + 1) (2 * whl cf + 2)) (hB : B + 408 < 1073741000)
    (hQ : ∀ τ dk' db' L', PR tv cf τ dk' db' L' (AM db' L', gI τ 203 0) [] r (B + 408) → AM db' L' = AM db L → RDo cf τ → (gI ρ 223 0 ≠ -1 → gA ρ 325 0 (gI ρ 223 0) = 0 → gA ρ 324 0 (gI ρ 223 0) ≤ (cf.2.1 - 2) * 128 - 256 → gI ρ 211 0 = 0 → Phi cf τ + 1 ≤ Phi cf ρ) → Fr mMr ρ τ → RK τ → K4 y1 (w32 (y2 + 1)) τ) : lQ2 (wp_Store_makeRoom_L47 cf tv 0 Q K4) y1 y2 ρ := by
  have hP : 8 ≤ cf.2.1 ∧ cf.2.1 ≤ 32 := hc.2.1
  have h0 : 0 ≤ cf.2.2 ∧ cf.2.2 ≤ 4 := hc.2.2
  have wr := whl_r hc
  obtain ⟨hS, -, -⟩ := PR.cm h.1
  generalize hv : gI ρ 223 0 = v at *
  have vr : v ≠ -1 → (4 + cf.2.2 ≤ v ∧ v < cf.1 - 6) ∧ gA ρ 323 0 v = 1 := fun q => by
    rcases (PR.v h.1).1 with w | ⟨-, w⟩ | ⟨-, w, -⟩
    · exact absurd (hv.symm.trans w) q
    · rw [hv] at w; exact w.1
    · rw [hv] at w; exact w
  have r2 : gI ρ 451 2 = -1 ∨ ((4 + cf.2.2 ≤ gI ρ 451 2 ∧ gI ρ 451 2 < cf.1 - 6) ∧ gA ρ 323 0 (gI ρ 451 2) = 2) := by
    by_cases q : gI ρ 451 2 = -1
    · exact Or.inl q
    · exact Or.inr ⟨(hS.rn (w := 2) (Or.inr (Or.inl rfl)) q).1, (hS.2.2.2.1 2 (Or.inr (Or.inl rfl)) q).1⟩
  have cmt : ∀ τ dk1 db1 L1, PR tv cf τ dk1 db1 L1 S' [] r B → AM db1 L1 = AM db L → gI τ 223 0 = v → (v = -1 → τ = ρ) → (v ≠ -1 → (CLa cf ρ τ v ∨ ∃ k, CLb cf ρ τ v k) ∧ ∀ e, e ∈ L1 → e.2.2.1 ≠ v) → Fr mCs ρ τ → wp_Store_makeRoom_b69 cf tv 0 Q K4 y1 y2 τ := by
    intro τ dk1 db1 L1 p1 am1 v1 t0 cl fr
    have n0 : gI τ 451 0 = -1 := by rw [fr.i _ _ (fun q => by have q := mCs_n q; unfold mBw mMv mIx mRd2 mPg mRow at q; omega)]; exact hn0
    have b0 : gI τ 211 0 = gI ρ 211 0 := fr.i _ _ (fun q => by have q := mCs_n q; unfold mBw mMv mIx mRd2 mPg mRow at q; omega)
    have mr : v ≠ -1 → MRr cf ρ τ v := fun q => CL.room hc (vr q) r2 hrom.1 (cl q).1
    have em : whl cf ≤ emp cf (gA τ 323 0) := by
      by_cases q : v = -1
      · rw [t0 q]; have := hrom.1; omega
      · exact (mr q).1
    unfold wp_Store_makeRoom_b69
    refine sp_commitWholeP hc p1 em (fun q => absurd n0 q) hB (fun υ dk2 db2 p2 am2 cw fr2 k2 _ y2' e2 => ?_)
    rw [e2]
    obtain ⟨S1, -, -⟩ := PR.cm p1.1
    obtain ⟨S2, -, -⟩ := PR.cm p2.1
    have rm : rom cf υ (whl cf + 1) (2 * whl cf + 2) := by
      by_cases q : v = -1
      · rw [t0 q] at cw
        obtain ⟨c1, c2, -⟩ := cw
        have := hrom.2
        exact ⟨by omega, by omega⟩
      · exact (mr q).rom hc S2 (vr q).1 (cl q).2 cw hrom.2
    refine hQ υ dk2 db2 L1 p2 (am2.trans am1) ⟨rm, ⟨by rw [cw.2.2.2.2.2.1.1 0 (Or.inl rfl) (by omega)]; exact n0, cw.2.2.2.1, cw.2.2.2.2.2.2.1 n0⟩, cw.1⟩ (fun q x1 x2 x3 => ?_) ((fr.mono (fun f o' q => Or.inl q)).tr (fr2.mono (fun f o' q => Or.inr (Or.inl q)))) k2
    exact CL.phi hc S1 S2 (vr q) ⟨x1, x2⟩ r2 (cl q).1 (cl q).2 cw (by rw [b0]; exact x3)
  refine lQ2_rule (fun z1 z2 τ => z1 = y1 ∧ z2 = y2 ∧ ∃ dk1 db1 L1, PR tv cf τ dk1 db1 L1 S' [] r B ∧ AM db1 L1 = AM db L ∧ gI τ 223 0 = v ∧ (v = -1 → τ = ρ) ∧ (v ≠ -1 → CLa cf ρ τ v ∨ ∃ k, CLb cf ρ τ v k) ∧ Fr mCs ρ τ) (fun _ _ τ => if gI τ 225 0 = 0 then ((cf.2.1 - 2) * 128 - gI τ 224 0).toNat + 1 else 0) ?_ y1 y2 ρ ⟨rfl, rfl, dk, db, L, h, rfl, hv, fun _ => rfl, fun q => Or.inl ⟨rfl, rfl, rfl, fun _ => rfl, fun _ _ _ _ _ => rfl⟩, Fr.rf _ _⟩
  intro K z1 z2 τ hI hK
  obtain ⟨e1, e2, dk1, db1, L1, p1, am1, v1, t0, cl, fr⟩ := hI
  rw [e1, e2]
  unfold wp_Store_makeRoom_L47
  rw [v1]
  refine ⟨fun q => cmt τ dk1 db1 L1 p1 am1 v1 t0 (fun w => absurd q w) fr, fun q => ⟨fun c1 => ?_, fun c0 => ?_⟩⟩
  · refine cmt τ dk1 db1 L1 p1 am1 v1 t0 (fun w => ⟨cl w, ?_⟩) fr
    rcases (PR.v p1.1).1 with w | ⟨w, -⟩ | ⟨-, -, w⟩
    · exact absurd (v1.symm.trans w) q
    · exact absurd w c1
    · rw [v1] at w; exact w
  · have em : 1 ≤ emp cf (gA τ 323 0) := by
      have := (CL.room hc (vr q) r2 hrom.1 (cl q)).1
      omega
    obtain ⟨S1, -, -⟩ := PR.cm p1.1
    refine sp_collectP hc p1 em ⟨v1, q, c0⟩ (fun υ p2 c2 ne2 fr2 k2 _ => ?_) (fun υ dk2 db2 L2 p2 am2 cs2 vp2 c2 ck2 hk2 fr2 k2 _ => ?_)
    · have fr2' : Fr mCs τ υ := fr2.mono (fun f o' q => by
        rcases q with q | q
        · exact Or.inl q
        · exact Or.inr (Or.inr ⟨Or.inr q.1, q.2⟩))
      have cs2 : CSo cf τ υ v := Or.inl ⟨⟨fr2.a _ _ (fun q => by unfold mRd2 mPg mRow at q; omega), fr2.a _ _ (fun q => by unfold mRd2 mPg mRow at q; omega)⟩, ⟨fr2.i _ _ (fun q => by unfold mRd2 mPg mRow at q; omega), fr2.i _ _ (fun q => by unfold mRd2 mPg mRow at q; omega)⟩, fun m _ _ => by rw [fr2.a _ _ (fun q => by unfold mRd2 mPg mRow at q; omega)]⟩
      refine hK _ _ _ ⟨rfl, rfl, dk1, db1, L1, p2, am1, by rw [fr2.i _ _ (fun q => by unfold mRd2 mPg mRow at q; omega)]; exact v1, fun w => absurd w q, fun w => CL.step hc S1 (PR.cm p2.1).1 (vr q) r2 (cl w) cs2 (CK.fr fr2 (fun f x a b q => by unfold mRd2 mPg mRow at q; omega) (fun f a b q => by unfold mRd2 mPg mRow at q; omega)) (Or.inl (fr2.i _ _ (fun q => by unfold mRd2 mPg mRow at q; omega))) (PR.dk hc p1.1 ⟨by have := (vr q).1; omega, (vr q).1.2⟩).2 fr2', fr.tr fr2'⟩ ?_
      rw [if_neg (by omega), if_pos c0]; omega
    · refine hK _ _ _ ⟨rfl, rfl, dk2, db2, L2, p2, am2.trans am1, by rw [fr2.i _ _ (fun q => by have q := mCs_n q; unfold mBw mMv mIx mRd2 mPg mRow at q; omega)]; exact v1, fun w => absurd w q, fun w => CL.step hc S1 (PR.cm p2.1).1 (vr q) r2 (cl w) cs2 ck2 hk2 (PR.dk hc p1.1 ⟨by have := (vr q).1; omega, (vr q).1.2⟩).2 fr2, fr.tr fr2⟩ ?_
      rw [if_pos c2, if_pos c0]; omega
theorem sp_makeRoomP {tv : Nat → Int} {cf : Cf} {σ : St} {dk : Int → Int} {db : Int → Int → Int} {B : Int} {r : RT} {L : List (Int × Int × Int × Int × Int × Int)} {S' : List (Int × Int × Int × (Int → Int)) × Int} {Q : St → Prop} (hc : CfOK cf) (h : PR tv cf σ dk db L S' [] r B) (hn0 : gI σ 451 0 = -1) (hrom : rom cf σ (whl cf + 1) (2 * whl cf + 2)) (hB : B + 48960 < 1073741000)
    (hQ : ∀ τ dk' db' L', PR tv cf τ dk' db' L' (AM db' L', gI τ 203 0) [] r (B + 48960) → AM db' L' = AM db L → gI τ 451 0 = -1 → whl cf + 2 ≤ emp cf (gA τ 323 0) → 2 * whl cf + 4 ≤ rmy cf (gA τ 323 0) (gA τ 325 0) → (gI τ 211 0 = 0 ∨ gI τ 211 0 = gI σ 211 0) → Fr mMr σ τ → RK τ → Q τ) : wp_Store_makeRoom cf tv 0 Q σ := by
  have hP : 8 ≤ cf.2.1 ∧ cf.2.1 ≤ 32 := hc.2.1
  have h0 : 0 ≤ cf.2.2 ∧ cf.2.2 ≤ 4 := hc.2.2
  have hBl : 24 ≤ cf.1 ∧ cf.1 ≤ 64 := hc.1
  have wr := whl_r hc
  have hS' : S' = (AM db L, gI σ 203 0) := h.2
  rw [hS'] at h
  unfold wp_Store_makeRoom
  refine lQ2_rule (fun z1 z2 τ => 0 ≤ z2 ∧ z2 ≤ 110 ∧ ∃ dk1 db1 L1, PR tv cf τ dk1 db1 L1 (AM db1 L1, gI τ 203 0) [] r (B + 408 * z2) ∧ AM db1 L1 = AM db L ∧ gI τ 451 0 = -1 ∧ rom cf τ (whl cf + 1) (2 * whl cf + 2) ∧ Fr mMr σ τ ∧ ((z2 = 0 ∧ z1 = 0 ∧ gI τ 211 0 = gI σ 211 0) ∨ (1 ≤ z2 ∧ RDo cf τ ∧ z2 + Phi cf τ ≤ 2 * (cf.1 - 10 - cf.2.2) - 5))) (fun _ z2 _ => (120 - z2).toNat) ?_ 0 0 σ ⟨by omega, by omega, dk, db, L, by rw [show B + 408 * 0 = B by omega]; exact h, rfl, hn0, hrom, Fr.rf _ _, Or.inl ⟨rfl, rfl, rfl⟩⟩
  intro K z1 z2 τ hI hK
  obtain ⟨z0, zz, dk1, db1, L1, p1, am1, n0, rm, fr, cs⟩ := hI
  obtain ⟨S1, -, hd⟩ := PR.cm p1.1
  have phr : 0 ≤ Phi cf τ := by
    have := jw_r (wst τ)
    unfold Phi pkN
    omega
  -- the place of pick
  have rnd : ∀ (ρ : St) (y1 : Int), PR tv cf ρ dk1 db1 L1 (AM db1 L1, gI τ 203 0) [] r (B + 408 * z2) → Fr (fun f o' => (f = 223 ∨ f = 224 ∨ f = 225) ∧ o' = 0) τ ρ → (1 ≤ z2 → gI ρ 223 0 ≠ -1 ∧ gA τ 325 0 (gI ρ 223 0) = 0 ∧ gA τ 324 0 (gI ρ 223 0) ≤ (cf.2.1 - 2) * 128 - 256) → lQ2 (wp_Store_makeRoom_L47 cf tv 0 Q K) y1 z2 ρ := by
    intro ρ y1 p f1 hpk
    have us : gA ρ 323 0 = gA τ 323 0 := f1.a _ _ (fun q => by omega)
    have ox : gA ρ 325 0 = gA τ 325 0 := f1.a _ _ (fun q => by omega)
    have lv : gA ρ 324 0 = gA τ 324 0 := f1.a _ _ (fun q => by omega)
    have bc : gI ρ 211 0 = gI τ 211 0 := f1.i _ _ (fun q => by omega)
    have z108 : z2 ≤ 107 := by
      rcases cs with q | q
      · omega
      · omega
    refine sp_roundP hc p (by rw [f1.i _ _ (fun q => by omega)]; exact n0) (by unfold rom; rw [us, ox]; exact rm) (by omega) (fun υ dk2 db2 L2 p2 am2 rd2 ph2 fr2 k2 => ?_)
    have w1 : w32 (z2 + 1) = z2 + 1 := w32_id (by unfold rI; omega)
    rw [w1]
    refine hK y1 (z2 + 1) υ ⟨by omega, by omega, dk2, db2, L2, by rw [show B + 408 * (z2 + 1) = B + 408 * z2 + 408 by omega]; exact p2, am2.trans am1, rd2.2.1.1, rd2.1, (fr.tr (f1.mono (fun f o' q => Or.inr (Or.inr q)))).tr fr2, Or.inr ⟨by omega, rd2, ?_⟩⟩ (by omega)
    rcases cs with ⟨q1, q2, q3⟩ | ⟨q1, q2, q3⟩
    · have a := pk_rmy hc (gA υ 323 0) (gA υ 325 0) (gA υ 324 0)
      have b := rd2.1.2
      have j := jw_r (wst υ)
      unfold Phi
      omega
    · obtain ⟨w1, w2, w3⟩ := hpk q1
      have a := ph2 w1 (by rw [ox]; exact w2) (by rw [lv]; exact w3) (by rw [bc]; exact q2.2.1.2.2)
      have e : Phi cf ρ = Phi cf τ := by
        unfold Phi wst
        rw [us, ox, lv, f1.i 451 2 (fun q => by omega), f1.i 452 2 (fun q => by omega)]
      omega
  unfold wp_Store_makeRoom_L4
  rw [w32_id (x := 2 * (cf.1 - 6)) (by unfold rI; omega)]
  refine ⟨fun q => ?_, fun _ => ?_⟩
  · exfalso
    rcases cs with ⟨q1, -⟩ | ⟨q1, -, q3⟩
    · omega
    · omega
  refine sp_isShort hc (fun sh _ _ => ⟨fun q => absurd q (by decide), fun _ => ⟨fun vn => ?_, fun vn => ?_⟩⟩) (fun e1 e2 _ _ => ⟨fun _ => ?_, fun q => absurd rfl q⟩)
  · refine rnd τ z1 p1 (Fr.rf _ _) (fun q => ?_)
    rcases cs with ⟨q1, -⟩ | ⟨q1, q2, -⟩
    · omega
    · exact absurd q2.2.1.2.1 vn
  · refine sp_pick hc (fun np _ _ => ⟨fun q => absurd rfl q, fun _ => ⟨fun _ => ?_, fun q => ?_⟩⟩) (fun v hv hl _ _ rk => ⟨fun _ => ?_, fun q => absurd q (by decide)⟩)
    · rcases cs with ⟨q1, q2, q3⟩ | ⟨q1, q2, q3⟩
      · exact rnd τ 1 p1 (Fr.rf _ _) (fun w => by omega)
      · exfalso
        have a := no_pick hc S1 (PR.v p1.1).2.1 (fun m m0 m1 hu hx => by
          rcases hd m m0 m1 hu with ⟨w, w1, w2⟩ | ⟨k, k1, -⟩
          · rcases w1 with e | e | e
            · rw [e, n0] at w2; omega
            · rw [e] at w2; exact w2.symm
            · rw [e] at w2
              have := (S1.2.2.2.1 4 (Or.inr (Or.inr rfl)) (by have w3 : gI τ 451 4 = m := w2; omega)).2
              rw [if_pos rfl] at this
              have w3 : gI τ 451 4 = m := w2
              rw [w3] at this
              omega
          · have := q2.2.1.2.2; omega) np
        have b := q2.2.2
        unfold shr at sh
        omega
    · exfalso
      rcases cs with ⟨q1, q2, q3⟩ | ⟨q1, q2, q3⟩
      · exact q q2
      · have a := no_pick hc S1 (PR.v p1.1).2.1 (fun m m0 m1 hu hx => by
          rcases hd m m0 m1 hu with ⟨w, w1, w2⟩ | ⟨k, k1, -⟩
          · rcases w1 with e | e | e
            · rw [e, n0] at w2; omega
            · rw [e] at w2; exact w2.symm
            · rw [e] at w2
              have := (S1.2.2.2.1 4 (Or.inr (Or.inr rfl)) (by have w3 : gI τ 451 4 = m := w2; omega)).2
              rw [if_pos rfl] at this
              have w3 : gI τ 451 4 = m := w2
              rw [w3] at this
              omega
          · have := q2.2.1.2.2; omega) np
        have b := q2.2.2
        unfold shr at sh
        omega
    · have f1 : Fr (fun f o' => (f = 223 ∨ f = 224 ∨ f = 225) ∧ o' = 0) τ (sI (sI (sI τ 223 0 v) 224 0 0) 225 0 0) := (((Fr.rf _ _).sI ⟨by decide, rfl⟩).sI ⟨by decide, rfl⟩).sI ⟨by decide, rfl⟩
      have ve : gI (sI (sI (sI τ 223 0 v) 224 0 0) 225 0 0) 223 0 = v := by rw [gI_sIo (by decide), gI_sIo (by decide), gI_sI1]
      have pe : gI (sI (sI (sI τ 223 0 v) 224 0 0) 225 0 0) 224 0 = 0 := by rw [gI_sIo (by decide), gI_sI1]
      refine rnd _ z1 (p1.vic f1 rk (Or.inr (Or.inl ⟨by rw [gI_sI1], ?_⟩))) f1 (fun _ => ?_)
      · rw [ve, pe]
        exact VC.beg S1 hv.1 (by rw [f1.a _ _ (fun q => by omega)]; exact hv.2.1)
      · rw [ve]
        refine ⟨by have := hv.1.1; omega, ?_, hl⟩
        rcases hv.2.2 with w | w
        · exact absurd rfl w
        · exact w
  · refine hQ τ dk1 db1 L1 (p1.le ?_ hB) am1 n0 e1 e2 ?_ fr S1.1.2
    · rcases cs with ⟨q1, -⟩ | ⟨q1, -, q3⟩
      · omega
      · omega
    · rcases cs with ⟨-, -, q3⟩ | ⟨-, q2, -⟩
      · exact Or.inr q3
      · exact Or.inl q2.2.1.2.2
