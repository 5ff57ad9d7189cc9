/-! Store.sync -/
/-- what the journal's progress touches -/
def mJr (f : Nat) (o' : Int) : Prop := mWr 0 f o' ∨ ((f = 205 ∨ f = 204 ∨ f = 202 ∨ f = 206 ∨ f = 207) ∧ o' = 0) ∨ mRow 6 f o'
theorem mJr_n {f : Nat} {o' : Int} (q : mJr f o') : mBw 0 f o' ∨ ((f = 450 ∨ f = 452) ∧ o' = 0) ∨ ((f = 205 ∨ f = 204 ∨ f = 202 ∨ f = 206 ∨ f = 207) ∧ o' = 0) ∨ mRow 6 f o' := by
  rcases q with q | q | q
  · rcases q with q | q
    · exact Or.inl q
    · exact Or.inr (Or.inl q)
  · exact Or.inr (Or.inr (Or.inl q))
  · exact Or.inr (Or.inr (Or.inr q))
def mSy (f : Nat) (o' : Int) : Prop := mWr 0 f o' ∨ (f = 205 ∧ o' = 0)
/-- a bud that is empty yet has no node -/
def NSx (cf : Cf) (σ : St) (dk : Int → Int) (db : Int → Int → Int) (b : Int) : Prop := ∀ m, 4 + cf.2.2 ≤ m → m < cf.1 - 6 → gA σ 323 0 m ≠ 0 → (m = gI σ 451 0 ∧ gI σ 452 0 = 0) ∨ (24 ≤ eE σ 0 dk m ∧ rI4 (db m) 4 ≠ 0 ∧ srl (db m) 0 ≤ b)
def ONx (tv : Nat → Int) (cf : Cf) (σ : St) (dk : Int → Int) (db : Int → Int → Int) (L : List (Int × Int × Int × Int × Int × Int)) (c lg s : Int) : Prop := (gI σ 208 0 = lg ∧ (lg = 2 ∨ lg = 3) ∧ gI σ 212 0 = c ∧ 0 ≤ c ∧ c + 1 < 1073741824) ∧ ((1 ≤ dk (5 - lg) → rI4 (db (5 - lg)) 24 ≤ c) ∧ (1 ≤ dk lg → rI4 (db lg) 24 ≤ c + 1)) ∧ (∀ m, (m = 0 ∨ m = 1) → ∀ k, 0 ≤ k → k < dk m → srl (db m) (128 * k) ≤ s) ∧ (NSx cf σ dk db s ∧ KSr σ db s) ∧ ((orL σ 0).Perm (nlL (AM db L)) ∧ 0 ≤ gI σ 218 0 ∧ gI σ 218 0 ≤ 8) ∧ ((0 ≤ gI σ 211 0 ∧ gI σ 211 0 ≤ 4) ∧ ∀ k, 0 ≤ k → k < gI σ 211 0 → (4 + cf.2.2 ≤ gA σ 210 0 k ∧ gA σ 210 0 k < cf.1 - 6) ∧ gA σ 323 0 (gA σ 210 0 k) ≠ 0 ∧ (gA σ 210 0 k = gI σ 451 0 ∨ ¬ hld σ 0 (gA σ 210 0 k))) ∧ gI σ 390 0 + nfr σ (krt σ 0) ≤ 320 ∧ ∀ k, 4 + cf.2.2 ≤ k → k < cf.1 - 6 → gA σ 325 0 k ≠ 0 → gA σ 323 0 k = 2 → k = gI σ 451 4
theorem ONv.x {tv : Nat → Int} {cf : Cf} {σ : St} {dk : Int → Int} {db : Int → Int → Int} {L : List (Int × Int × Int × Int × Int × Int)} {c lg s : Int} (h : ONv tv cf σ dk db L c lg s) : ONx tv cf σ dk db L c lg s := ⟨h.1, h.2.1, h.2.2.1, ⟨fun m m0 m1 q => Or.inr (h.2.2.2.1.1 m m0 m1 q), h.2.2.2.1.2⟩, h.2.2.2.2⟩
theorem PG.jr {tv : Nat → Int} {cf : Cf} {σ τ : St} {dk dk' : Int → Int} {db db' : Int → Int → Int} {L : List (Int × Int × Int × Int × Int × Int)} {σc : St} {l : Nat} {z c lg lr sv nx tn tp : Int} {bl bl' : List (Int × Int × Int × List (List Int))} {s s2 s3 b0 B B' V jn sJ : Int} {S3 : List (Int × Int × Int × (Int → Int)) × Int} {W : List (Int × (List (Int × Int × Int × (Int → Int)) × Int))} {r : RT} (hc : CfOK cf) (hI : SIc tv cf σ dk db L s B) (hO : ONx tv cf σ dk db L c lg s) (hN0 : gI σ 451 0 ≠ -1 → gI σ 452 0 = 0 → 24 ≤ eE τ 0 dk' (gI σ 451 0) ∧ rI4 (db' (gI σ 451 0)) 4 ≠ 0 ∧ srl (db' (gI σ 451 0)) 0 ≤ s2) (hFX : FX tv cf dk' db' σc l z c lg lr sv nx tn tp bl' s3 S3 s2 V jn) (hJ : JI tv τ dk' db' bl' s3 S3 W (lgY dk db lg sv) sJ) (hBD : BDl σ bl) (hbl : bl'.map (fun b => b.1) = bl.map (fun b => b.1)) (hlo : gI σ 209 0 = dk lg ∧ gI σ 213 0 = 0) (hcB : c ≤ B') (hs : gI τ 202 0 = s2 ∧ s ≤ s2 ∧ s2 ≤ 1000000 * B' ∧ sJ ≤ s2 ∧ s2 ≤ max (lgY dk db lg sv) sJ) (hV : VCl tv cf σ dk db L) (hHD : HDv cf σ) (hXO : XO σ σc l z bl) (S1 : SA tv cf τ dk' db' L) (D1 : DJ tv cf τ 0 dk' db' (SpC cf c b0 r) B') (hb0 : b0 ≤ lr) (hBB : B ≤ B') (hg : LGo cf σ τ dk dk' db db') (he : ∀ m, m ≠ gI σ 451 0 → dk' m = dk m ∧ ∀ p, db' m p = db m p) (fr : Fr mJr σ τ) : PG tv cf τ dk' db' L S3 W r B' ∧ AM db' L = AM db L := by
  have hR : 0 ≤ cf.2.2 ∧ cf.2.2 ≤ 4 := hc.2.2
  obtain ⟨hS, ⟨hL, hkm⟩, hnx, ⟨hs1, hs2⟩, ⟨ho1, ho2⟩, hB0⟩ := hI
  have hlg : lg = 2 ∨ lg = 3 := hFX.1.1.1
  have am : AM db' L = AM db L := AM.grow hS.2.1.2.2 (fun e he p p0 p1 => by
    have q := hS.2.1.2.2 e he
    exact (hg.1 _ (by omega) q.1.2).2.2 p (by have := q.2.2.2.2.2.2; omega))
  have n0r : gI σ 451 0 = -1 ∨ 4 + cf.2.2 ≤ gI σ 451 0 := by
    rcases hS.1.1.all.1 0 (Or.inl rfl) with q | q
    · exact Or.inl q
    · exact Or.inr q.1.1
  have lo : ∀ m, 0 ≤ m → m < 4 + cf.2.2 → dk' m = dk m ∧ ∀ p, db' m p = db m p := fun m m0 m1 => he m (by omega)
  have fi : ∀ g, (201 ≤ g ∧ g ≤ 228 ∧ g ≠ 205 ∧ g ≠ 204 ∧ g ≠ 202 ∧ g ≠ 206 ∧ g ≠ 207) → gI τ g 0 = gI σ g 0 := fun g hg => fr.i _ _ (fun q => by have q := mJr_n q; unfold mBw mRow at q; omega)
  have fa : ∀ g, (201 ≤ g ∧ g ≤ 228 ∧ g ≠ 205 ∧ g ≠ 204 ∧ g ≠ 202 ∧ g ≠ 206 ∧ g ≠ 207) → gA τ g 0 = gA σ g 0 := fun g hg => fr.a _ _ (fun q => by have q := mJr_n q; unfold mBw mRow at q; omega)
  have fn : ∀ w, isW 0 w → gI τ 451 w = gI σ 451 w := fun w hw => fr.i _ _ (fun q => by have q := mJr_n q; unfold mBw mRow at q; unfold isW at hw; omega)
  have us : gA τ 323 0 = gA σ 323 0 := fr.a _ _ (fun q => by have q := mJr_n q; unfold mBw mRow at q; omega)
  have ox : gA τ 325 0 = gA σ 325 0 := fr.a _ _ (fun q => by have q := mJr_n q; unfold mBw mRow at q; omega)
  obtain ⟨kr, ko⟩ := krt_fr (o := 0) fr (fun f x a b q => by have q := mJr_n q; unfold mBw mRow at q; omega) (fun q => by have q := mJr_n q; unfold mBw mRow at q; omega)
  have hl : ∀ m, hld τ 0 m ↔ hld σ 0 m := fun m => ⟨fun ⟨v, v1, v2⟩ => ⟨v, v1, by rw [← fn v v1]; exact v2⟩, fun ⟨v, v1, v2⟩ => ⟨v, v1, by rw [fn v v1]; exact v2⟩⟩
  have orc : (orL τ 0).Perm (nlL (AM db' L)) ∧ 0 ≤ gI τ 218 0 ∧ gI τ 218 0 ≤ 8 := by
    unfold orL
    rw [fa 217 (by decide), fi 218 (by decide), am]
    exact ⟨ho1, ho2⟩
  have dl := lo lg (by omega) (by omega)
  have ly : lgY dk' db' lg sv = lgY dk db lg sv := by
    unfold lgY
    rw [dl.1]
    congr 1
    exact srl_ext (n := 16) (by omega) (fun p _ _ => dl.2 p)
  have hO' : ONv tv cf τ dk' db' L c lg s2 := by
    obtain ⟨⟨g1, g2, g3, g4⟩, ⟨g5, g6⟩, g7, ⟨g8, g9⟩, ⟨g11, g12⟩, ⟨g13, g14⟩, g15, g16⟩ := hO
    have low4 : ∀ m, 0 ≤ m → m < 4 → 1 ≤ dk' m → 1 ≤ dk m ∧ rI4 (db' m) 24 = rI4 (db m) 24 := fun m m0 m1 q => by
      have w := lo m m0 (by omega)
      exact ⟨by rw [← w.1]; exact q, rI4_ext (fun i _ _ => w.2 i)⟩
    refine ⟨⟨by rw [fi _ (by decide)]; exact g1, g2, by rw [fi _ (by decide)]; exact g3, g4⟩, ⟨fun q => ?_, fun q => ?_⟩, fun m hm k k0 k1 => ?_, ⟨fun m m0 m1 hm => ?_, fun x hx hfx => ?_⟩, orc, ⟨by rw [fi _ (by decide)]; exact g13, fun k k0 k1 => ?_⟩, ?_, ?_⟩
    · have w := low4 (5 - lg) (by omega) (by omega) q
      rw [w.2]; exact g5 w.1
    · have w := low4 lg (by omega) (by omega) q
      rw [w.2]; exact g6 w.1
    · have w := lo m (by omega) (by omega)
      rw [w.1] at k1
      rw [srl_ext (g := db m) (n := 16) (by omega) (fun p _ _ => w.2 p)]
      exact Int.le_trans (g7 m hm k k0 k1) hs.2.1
    · rw [us] at hm
      rcases g8 m m0 m1 hm with ⟨en, ep⟩ | ⟨y1, y2, y3⟩
      · rw [en]; exact hN0 (by omega) ep
      obtain ⟨x1, x2, x3⟩ := hg.1 m (by omega) m1
      refine ⟨by omega, ?_, ?_⟩
      · rw [rI4_ext (h := db m) (fun i i0 i1 => x3 i (by omega))]; exact y2
      · rw [srl_ext (g := db m) (n := 16) (by omega) (fun p p0 p1 => x3 p (by omega))]
        exact Int.le_trans y3 hs.2.1
    · rw [kr] at hx
      rw [(ko x).2.1] at hfx
      obtain ⟨-, w2, w3, w4⟩ := (ko x).2
      rw [w2, w3]
      have k := (hS.2.2.2.2.1 x hx hfx).1
      have r := k.2.2.1
      have sz := k.sz (krt_cnt hS.2.1.1.1 x hx)
      rw [srl_ext (g := db (gI σ 585 x)) (n := gI σ 587 x) (by omega) (fun p p0 p1 => (hg.1 _ (by omega) r.2).2.2 p (by have := k.2.2.2.2.1; omega))]
      exact Int.le_trans (g9 x hx hfx) hs.2.1
    · rw [fi _ (by decide)] at k1
      obtain ⟨y1, y2, y3⟩ := g14 k k0 k1
      rw [fa 210 (by decide), us, fn 0 (Or.inl rfl)]
      refine ⟨y1, y2, ?_⟩
      rcases y3 with y | y
      · exact Or.inl y
      · exact Or.inr (fun z => y ((hl _).mp z))
    · have a : nfr τ (krt τ 0) = nfr σ (krt σ 0) := by rw [kr]; exact nfr_ext (fun y _ => (ko y).2.1)
      have b : gI τ 390 0 = gI σ 390 0 := fr.i _ _ (fun q => by have q := mJr_n q; unfold mBw mRow at q; omega)
      rw [a, b]; exact g15
    · rw [ox, us, fn 4 (Or.inr (Or.inr rfl))]; exact g16
  have hV' : VCl tv cf τ dk' db' L := by
    have vs : gA σ 323 0 (gI σ 223 0) = 1 → 4 + cf.2.2 ≤ gI σ 223 0 → gI σ 223 0 ≠ gI σ 451 0 := fun q q1 e => by
      have := (hS.2.2.2.1 0 (Or.inl rfl) (by omega)).1
      rw [← e] at this
      omega
    unfold VCl VC at hV ⊢
    rw [fi 223 (by decide), fi 225 (by decide), fi 224 (by decide), us]
    rcases hV with q | ⟨q, ⟨q1, q2⟩, ⟨q3, q4⟩, q5⟩ | ⟨q, ⟨q1, q2⟩, q3⟩
    · exact Or.inl q
    · obtain ⟨e1, e2⟩ := he _ (vs q2 q1.1)
      refine Or.inr (Or.inl ⟨q, ⟨q1, q2⟩, ⟨by unfold lmF at q3 ⊢; rw [e1]; exact q3, q4.ext (fun i _ _ => e2 i)⟩, q5⟩)
    · exact Or.inr (Or.inr ⟨q, ⟨q1, q2⟩, q3⟩)
  refine ⟨⟨σc, l, z, c, lg, lr, sv, nx, tn, tp, bl', s2, s3, b0, V, jn, sJ, ⟨S1, ⟨hL, by rw [am]; exact hkm⟩, by rw [fi _ (by decide)]; exact hnx, ⟨hs.1, by omega⟩, orc, by omega, hB0.2.lg hS hg hs.2.1 hR.1⟩, ⟨D1, hb0⟩, hO', hFX, by rw [ly]; exact hJ, ?_, ⟨by rw [fi _ (by decide), dl.1]; exact hlo.1, by rw [fi _ (by decide)]; exact hlo.2⟩, ⟨hcB, hs.2.2.1, hs.2.2.2.1, by rw [ly]; exact hs.2.2.2.2⟩, hV', fun m m0 m1 q => ?_, hXO.fr ox hbl⟩, am⟩
  · unfold BDl
    rw [fi 211 (by decide), fa 210 (by decide), hbl]
    exact hBD
  · rw [us] at q
    rcases hHD m m0 m1 q with w | ⟨k, k1, k2⟩
    · exact Or.inl ((hl m).mpr w)
    · exact Or.inr ⟨k, by rw [fi 211 (by decide)]; exact k1, by rw [fa 210 (by decide)]; exact k2⟩
theorem sp_syncP {tv : Nat → Int} {cf : Cf} {σ : St} {dk : Int → Int} {db : Int → Int → Int} {B : Int} {r : RT} {L : List (Int × Int × Int × Int × Int × Int)} {S' : List (Int × Int × Int × (Int → Int)) × Int} {W : List (Int × (List (Int × Int × Int × (Int → Int)) × Int))} {Q : St → Prop} (hc : CfOK cf) (h : PR tv cf σ dk db L S' W r B)
    (hQ : ∀ τ dk' db', PR tv cf τ dk' db' L (AM db' L, gI τ 203 0) [] r B → AM db' L = AM db L → flu τ 0 → (gI σ 451 0 ≠ -1 → gI τ 452 0 = (gI σ 452 0 + 127) / 128 * 128) → Fr mSy σ τ → RK τ → Q τ) : wp_Store_sync cf tv 0 Q σ := by
  have hR : 0 ≤ cf.2.2 ∧ cf.2.2 ≤ 4 := hc.2.2
  have hBl : 24 ≤ cf.1 ∧ cf.1 ≤ 64 := hc.1
  obtain ⟨⟨σc, l, z, c, lg, lr, sv, nx, tn, tp, bl, s, s', b0, V, jn, sJ, hI, ⟨hD, hb0⟩, hO, hFX, hJ, hBD, hlo, ⟨hcB, hsB, hsJ, hsd⟩, hV, hHD, hXO⟩, hla⟩ := h
  have hS := hI.1
  have hlg : lg = 2 ∨ lg = 3 := hFX.1.1.1
  unfold wp_Store_sync
  refine sp_saflush hc hS hD (w := 0) (Or.inl rfl) (fun σ1 dk1 db1 S1 D1 n1 fl1 p1 d1 lg1 f1 σ2 e2 => ?_)
  have f12 : Fr (fun f o' => f = 205 ∧ o' = 0) σ1 σ2 := by rw [e2]; exact (Fr.rf _ _).sI ⟨rfl, rfl⟩
  have k2 : RK σ2 := by rw [e2]; exact S1.1.2.sI (by show rI 0; unfold rI; omega)
  have S2 := S1.fr f12 (fun f o' a q => by unfold mSA isW at a; omega) k2
  have D2 := D1.fr f12 (fun f o' a q => by unfold rBI at a; omega)
  have frS : Fr mSy σ σ2 := (f1.mono (fun f o' q => Or.inl q)).tr (f12.mono (fun f o' q => Or.inr q))
  have fr : Fr mJr σ σ2 := frS.mono (fun f o' q => by
    rcases q with q | q
    · exact Or.inl q
    · exact Or.inr (Or.inl ⟨Or.inl q.1, q.2⟩))
  have nw2 : ∀ (f : Nat) (w : Int), (w = 0 ∨ w = 0 + 2 ∨ w = 0 + 4) → 450 ≤ f → f ≤ 452 → ¬ (f = 205 ∧ w = 0) := fun f w _ a b q => by omega
  have lg2 : LGo cf σ σ2 dk dk1 db db1 := ⟨fun m m0 m1 => by rw [eE_fr f12 nw2]; exact lg1.1 m m0 m1, lg1.2⟩
  have w2 : gI σ2 205 0 = 0 := by rw [e2, gI_sI1]
  have n2 : gI σ2 451 0 = gI σ 451 0 := (f12.i _ _ (fun q => by omega)).trans n1
  have pl2 : gI σ2 452 0 = gI σ1 452 0 := f12.i _ _ (fun q => by omega)
  have nx2 : gI σ2 203 0 = gI σ 203 0 := fr.i _ _ (fun q => by have q := mJr_n q; unfold mBw mRow at q; omega)
  have fl2 : flu σ2 0 := by
    unfold flu
    rw [pl2, f12.i 451 0 (fun q => by omega)]; exact fl1
  have sr2 : gI σ2 202 0 = s := by
    rw [f12.i _ _ (fun q => by omega), f1.i _ _ (fun q => by unfold mWr mBw at q; omega)]
    exact hI.2.2.2.1.1
  have dg := lg2.dg (tv := tv) hS
  have n0r : gI σ 451 0 = -1 ∨ 4 + cf.2.2 ≤ gI σ 451 0 := by
    rcases hS.1.1.all.1 0 (Or.inl rfl) with q | q
    · exact Or.inl q
    · exact Or.inr q.1.1
  have low : ∀ m, 0 ≤ m → m < 4 → dk1 m = dk m := fun m m0 m1 => (d1 m (by omega)).1
  have oth : ∀ m, 0 ≤ m → m ≠ gI σ 451 0 → lmF dk1 m = lmF dk m := fun m _ ne => by unfold lmF; rw [(d1 m ne).1]
  have main : ∀ bl', bl'.map (fun b : Int × Int × Int × List (List Int) => b.1) = bl.map (fun b => b.1) → FX tv cf dk1 db1 σc l z c lg lr sv nx tn tp bl' sJ (laS S' W) s V jn → JI tv σ2 dk1 db1 bl' sJ (laS S' W) [] (lgY dk db lg sv) sJ → Q σ2 := by
    intro bl' hm hX hJ'
    obtain ⟨pg, am⟩ := PG.jr hc hI hO.x (fun q p0 => by
      exfalso
      have rn := hS.rn (w := 0) (Or.inl rfl) q
      have us := (hS.2.2.2.1 0 (Or.inl rfl) q).1
      have := (hO.2.2.2.1.1 _ rn.1.1 rn.1.2 (by omega)).1
      rw [eE_at hS.1.1 (Or.inl rfl) rfl q] at this
      omega) hX hJ' hBD hm hlo hcB ⟨sr2, Int.le_refl _, hsB, hsJ, hsd⟩ hV hHD hXO S2 D2 hb0 (Int.le_refl _) lg2 d1 fr
    refine hQ σ2 dk1 db1 ⟨?_, rfl⟩ am fl2 (fun q => by rw [pl2]; exact (p1 q).1) frS k2
    rw [hla] at pg
    rw [nx2, am]
    exact pg
  rcases hJ with ⟨q1, q2, q3, q4⟩ | ⟨q, bl0, a, b, t, t2, w1, w2', w5, w6, w7⟩
  · have e : laS S' W = S' := by rw [q3]; rfl
    refine main bl rfl ?_ (Or.inl ⟨n2.trans q1, w2, rfl, rfl⟩)
    rw [e, q4]
    exact hFX.dg hc dg low (fun b' hb' => oth b'.1 (by have := bR.rng hFX.2.1.2.1 b' hb'; omega) (by have := bR.rng hFX.2.1.2.1 b' hb'; omega)) (fun j => by
      by_cases j0 : 0 ≤ jn
      · exact oth jn j0 (by omega)
      · unfold lmF
        by_cases e : jn = gI σ 451 0
        · exact absurd (e.trans q1) j
        · rw [(d1 jn e).1])
  · obtain ⟨pa, pb, pc⟩ := p1 q
    have rn := hS.rn (w := 0) (Or.inl rfl) q
    generalize hn : gI σ 451 0 = n at *
    have gx : ∀ p, p < gI σ 452 0 → db1 n p = db n p := fun p p0 => (lg1.1 n (by omega) rn.1.2).2.2 p (by rw [eE_at hS.1.1 (Or.inl rfl) hn q]; exact p0)
    have sm : sM tv (db1 n) (t2 ++ (if gI σ 452 0 % 128 = 0 then [] else [[]])) b s' S' ((gI σ 452 0 + 127) / 128 * 128) sJ (laS S' W) := by
      refine sM_app (sM_ext (h := db1 n) w2'.sM (fun p p0 p1 => gx p p1)) ?_
      by_cases z : gI σ 452 0 % 128 = 0
      · rw [if_pos z]
        exact ⟨by omega, rfl, rfl⟩
      · rw [if_neg z]
        exact ⟨⟨z, fun p p0 p1 => pc p p0 p1⟩, rfl, rfl, rfl⟩
    rw [w1] at hFX hBD
    refine main (bl0 ++ [(n, a, (gI σ 452 0 + 127) / 128 * 128, t ++ (t2 ++ (if gI σ 452 0 % 128 = 0 then [] else [[]]))) ]) (by rw [w1, List.map_append, List.map_append]; rfl) ?_ ?_
    · exact hFX.jr hc (v3 := []) (hO.2.1.1) dg low (fun m m0 ne => oth m m0 ne) sm (by rw [pb]; exact Int.le_refl _) (Or.inl (Or.inl (by omega))) ⟨Int.le_refl _, hsJ⟩
    · refine Or.inr ⟨by rw [n2]; exact q, bl0, a, (gI σ 452 0 + 127) / 128 * 128, _, [], by rw [n2], ?_, w2, rfl, fun x hx => absurd hx List.not_mem_nil⟩
      rw [pl2, pa]
      exact ⟨rfl, rfl, rfl⟩
