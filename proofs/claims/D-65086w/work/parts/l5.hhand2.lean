/-! House.hand whole -/
def mHh (f : Nat) (o' : Int) : Prop := mHd f o' ∨ mAq f o'
theorem SA.ix2 {tv : Nat → Int} {cf : Cf} {σ τ : St} {dk : Int → Int} {db : Int → Int → Int} {L L' : List (Int × Int × Int × Int × Int × Int)} (hc : CfOK cf) (h : SA tv cf σ dk db L) (hI : XI cf τ 0 L') (hC : CK σ τ 0) (hl : ∀ m, 0 ≤ m → m < cf.1 - 6 → gA τ 324 0 m - lS L' m = gA σ 324 0 m - lS L m) (fr : Fr mAq σ τ) (rk : RK τ) (hlen : L'.length ≤ 885) (he : eV tv cf db (eE σ 0 dk) L') (hle : ∀ m, 4 + cf.2.2 ≤ m → m < cf.1 - 6 → gA τ 324 0 m ≤ eE σ 0 dk m) (hnew : ∀ e, e ∈ L' → gA σ 323 0 e.2.2.1 ≠ 0 ∧ gA σ 325 0 e.2.2.1 = 0) : SA tv cf τ dk db L' := by
  have hR : 0 ≤ cf.2.2 ∧ cf.2.2 ≤ 4 := hc.2.2
  have hB : 24 ≤ cf.1 ∧ cf.1 ≤ 64 := hc.1
  have nn := fun {m : Int} (hm : 0 ≤ m) => h.nn hc hm
  obtain ⟨⟨w1, w2⟩, ⟨x1, x2, x3⟩, nm, wu, kn, ol, tb, l0⟩ := h
  have wf : ∀ f v, (v = 0 ∨ v = 0 + 2 ∨ v = 0 + 4) → 450 ≤ f → f ≤ 452 → ¬ mAq f v := fun f v _ a b q => by have q := mAq_n q; unfold mIx mRow at q; omega
  have ns : ∀ f, (f = 323 ∨ f = 325) → gA τ f 0 = gA σ f 0 := fun f hf => fr.a _ _ (fun q => by have q := mAq_n q; unfold mIx mRow at q; omega)
  have nt : ∀ f, (f = 214 ∨ f = 216) → gI τ f 0 = gI σ f 0 := fun f hf => fr.i _ _ (fun q => by have q := mAq_n q; unfold mIx mRow at q; omega)
  have nu : ∀ v, gI τ 451 v = gI σ 451 v := fun v => fr.i _ _ (fun q => by have q := mAq_n q; unfold mIx mRow at q; omega)
  have ee : eE τ 0 dk = eE σ 0 dk := funext (fun m => eE_fr fr wf)
  have hh : ∀ m, hld τ 0 m ↔ hld σ 0 m := fun m => ⟨fun ⟨v, v1, v2⟩ => ⟨v, v1, by rw [← nu v]; exact v2⟩, fun ⟨v, v1, v2⟩ => ⟨v, v1, by rw [nu v]; exact v2⟩⟩
  have kn' : ∀ x, x ∈ krt τ 0 → gI τ 584 x = 0 → knE tv cf db (eE σ 0 dk) τ x := knE.ck hI.1 hC (fun x hx hf => (kn x hx hf).1)
  have ol' : ∀ i, 0 ≤ i → i < gI τ 390 0 → (4 + cf.2.2 ≤ gA τ 388 0 i ∧ gA τ 388 0 i < cf.1 - 6) ∧ gA σ 325 0 (gA τ 388 0 i) ≠ 0 ∧ 32 ≤ gA τ 389 0 i ∧ gA τ 389 0 i ≤ 256 := hC.2.2.1 (fun n s => (4 + cf.2.2 ≤ n ∧ n < cf.1 - 6) ∧ gA σ 325 0 n ≠ 0 ∧ 32 ≤ s ∧ s ≤ 256) ol (fun x hx hf => ⟨(kn x hx hf).1.2.2.1, (kn x hx hf).2, (kn x hx hf).1.sz (krt_cnt x1.1 x hx)⟩)
  have out : ∀ m, (gA σ 323 0 m = 0 ∨ gA σ 325 0 m ≠ 0) → lS L' m = 0 := fun m q => lS_out (fun e he' w => by
    have := hnew e he'
    rw [w] at this
    rcases q with q | q
    · exact this.1 q
    · exact q this.2)
  refine ⟨⟨w1.fr fr wf, rk⟩, ⟨hI, hlen, by rw [ee]; exact he⟩, fun m m0 m1 => ?_, fun v hv nv => ?_, fun x hx hf => ?_, ?_, ?_, fun m m0 m1 => ?_⟩
  · obtain ⟨a1, a2, a3, a4, a5, a6, a7⟩ := nm m m0 m1
    have tbe : tbS τ m = tbS σ m := by unfold tbS; rw [nt _ (by omega), nt _ (by omega)]
    have lm := hl m (by omega) m1
    have ck := hC.1 m (by omega)
    have q := nn (m := m) (by omega)
    unfold NM
    rw [ns 323 (by omega), ns 325 (by omega), tbe, nt 214 (by omega), ee]
    refine ⟨a1, fun z => ?_, by omega, hle m m0 m1, fun z => out m (Or.inr z), fun z => ?_, fun z => ?_⟩
    · obtain ⟨b1, b2, b3⟩ := a2 z
      refine ⟨b1, ?_, fun y => b3 ((hh m).mp y)⟩
      have := out m (Or.inl z)
      omega
    · obtain ⟨b1, b2, b3⟩ := a6 z
      have p1 : 0 ≤ kS τ (krt τ 0) m := (kS_r (fun x hx hf => by have := (kn' x hx hf).sz (krt_cnt hI.1 x hx); omega)).1
      have p2 : 0 ≤ oS τ 0 m := oSm_nn _ (fun i i0 i1 => by have := (ol' i i0 (by omega)).2.2; omega)
      exact ⟨by omega, by omega, b3⟩
    · obtain ⟨b1, b2⟩ := a7 z
      exact ⟨fun y => by rw [ee]; exact b1 ((hh m).mp y), fun y => b2 (fun u => y ((hh m).mpr u))⟩
  · rw [nu v] at nv ⊢
    rw [ns 323 (by omega), ns 325 (by omega)]
    exact wu v hv nv
  · rw [ns 325 (by omega), ee]
    refine ⟨kn' x hx hf, ?_⟩
    obtain ⟨c1, c2, c3⟩ := hC.2.1 x hx hf
    rw [c3.2.1]
    exact (kn x c1 (by rw [← c3.1]; exact hf)).2
  · rw [ns 325 (by omega)]; exact ol'
  · rw [nt _ (by omega), nt _ (by omega), ns 325 (by omega)]; exact tb
  · have lm := hl m m0 (by omega)
    rw [l0 m m0 m1, lS_out (L := L') (fun e he' w => by have := (he e he').1; omega), lS_out (L := L) (fun e he' w => by have := (x3 e he').1; omega)] at lm
    omega
theorem sp_Hhand {tv : Nat → Int} {cf : Cf} {σ : St} {dk : Int → Int} {db : Int → Int → Int} {B e : Int} {r : RT} {L : List (Int × Int × Int × Int × Int × Int)} {S' S2 : List (Int × Int × Int × (Int → Int)) × Int} {W : List (Int × (List (Int × Int × Int × (Int → Int)) × Int))} {u : List Int} {Q : St → Prop} (hc : CfOK cf) (h : PX tv cf σ dk db L S' W r B) (hB : B + 49772 < 1073741000) (he : gI σ 514 6 = e) (he2 : e ≤ 508) (hg : gB (gA σ 512 6) u 0 (AM db L, gI σ 203 0) e S2) (hS2 : S2.1.length ≤ 880 ∧ cpM S2.1 ≤ capa cf ∧ (nlL S2.1).length ≤ 8 ∧ 0 ≤ S2.2 ∧ S2.2 < 1073741824)
    (hQ : ∀ τ dk' db' L' p0 S0 W0 k, TKo cf σ e (AM db L, gI σ 203 0) S' W p0 S0 W0 → PR tv cf τ dk' db' L' (laS S0 ((W0 ++ [(p0 + e, S2)]).take k)) ((W0 ++ [(p0 + e, S2)]).drop k) r (B + 49772) → AM db' L' = S2.1 → gI τ 203 0 = S2.2 → rom cf τ (whl cf + 1) (2 * whl cf + 2) → SFo (p0 + e) (W0 ++ [(p0 + e, S2)]) k → gI τ 451 0 ≠ -1 → gI τ 452 0 = p0 + e → Fr mHh σ τ → RK τ → Q τ) : wp_House_hand cf tv Q σ := by
  have hP : 8 ≤ cf.2.1 ∧ cf.2.1 ≤ 32 := hc.2.1
  have hR : 0 ≤ cf.2.2 ∧ cf.2.2 ≤ 4 := hc.2.2
  have gl := gB_le hg
  have r6 : rowL 6 = 512 := by unfold rowL; rw [if_neg (by omega), if_neg (by omega), if_pos (by omega)]
  unfold wp_House_hand
  refine sp_Shand hc h hB he he2 hg (fun υ τ dk1 db1 L1 p0 S0 W0 k tko nυ pυ pg am1 rm1 hn used fr1 k1 _ => ?_)
  obtain ⟨sf, ⟨gn, gp, nτ, pτ⟩, ⟨s0, s1, gr, s1le⟩, cpb, on0, ee0, lv0, enτ⟩ := hn
  rw [pυ] at sf gp pτ cpb on0 ee0 lv0
  have pg0 := pg
  obtain ⟨σc, l, z, c, lg, lr, sv, nx, tn, tp, bl, s, s', b0, V, jn, sJ, ⟨S1, ⟨hL1, hcp1⟩, hnx1, ⟨hs1, hs2⟩, ⟨ho1, ho2⟩, hB1, hES1⟩, -⟩ := pg
  have nn : gI τ 451 0 ≠ -1 := by rw [nτ]; exact nυ
  generalize hn' : gI υ 451 0 = n at *
  have rn := S1.rn (w := 0) (Or.inl rfl) nn
  have ust := S1.2.2.2.1 0 (Or.inl rfl) nn
  rw [nτ] at rn ust
  rw [pτ] at rn
  rw [if_neg (by omega)] at ust
  have p00 : 0 ≤ p0 := by
    have a := S1.nn hc (m := n) (by omega)
    have b := (S1.2.2.1 n rn.1.1 rn.1.2).2.2.1
    omega
  have nxτ : gI τ 203 0 = gI σ 203 0 := by
    have a := pg0
    refine fr1.i _ _ (fun q => ?_)
    rcases q with q | q | q
    · unfold mCf mCm mEc mTb mWt mMd mRow mRm mWc mSf mWr mMl mBw mMv at q; omega
    · rcases q with q | (q | q | q) | q
      · unfold mSy mWr mBw at q; omega
      · have q := mCs_n q; unfold mBw mMv mIx mRd2 mPg mRow at q; omega
      · unfold mCw mCf mCm mEc mTb mWt mMd mRow mRm mWc mSf mWr mMl mBw mMv mBh mBg mIx mB2 mWr mMl mBw mMv mRow at q; omega
      · omega
      · have q := mBq_n q; unfold mBw mMv mRow at q; omega
    · have q := mJr_n q; unfold mBw mRow at q; omega
  have rs0 : RS tv cf db1 (eE τ 0 dk1) (gI τ 202 0) τ 0 (AM db L, gI σ 203 0) L1 := ⟨S1.2.1.1, am1, nxτ, by rw [← am1]; exact ho1, ho2.1, S1.2.1.2.2, by rw [hs1]; exact hES1⟩
  generalize hX : gI τ 202 0 = X at *
  refine lQ1_rule (fun y ω => (0 ≤ y ∧ y ≤ e) ∧ ∃ L2 Si, RS tv cf db1 (eE τ 0 dk1) X ω 0 Si L2 ∧ CK τ ω 0 ∧ (∀ m, 0 ≤ m → m < cf.1 - 6 → gA ω 324 0 m - lS L2 m = gA τ 324 0 m - lS L1 m) ∧ (∀ m, lS L2 m ≤ lS L1 m + (if m = n then y else 0)) ∧ (∀ x, x ∈ L2 → x ∈ L1 ∨ x.2.2.1 = n) ∧ Fr mAq τ ω ∧ RK ω ∧ gA ω 512 6 = gA τ 512 6 ∧ gI ω 514 6 = e ∧ onC tv (db1 n) (p0 + y) ∧ ((y = e ∧ Si = S2) ∨ ∃ v t1, gN tv (gA τ 512 6) v y t1 Si e s1 S2)) (fun y _ => (e - y).toNat) ?_ 0 τ ⟨⟨by omega, by omega⟩, L1, _, rs0, CK.fr (M := fun _ _ => False) (Fr.rf _ _) (fun _ _ _ _ q => q) (fun _ _ _ q => q), fun _ _ _ => rfl, fun m => by split <;> omega, fun x hx => Or.inl hx, Fr.rf _ _, k1, rfl, enτ, by rw [Int.add_zero]; exact on0, Or.inr ⟨u, s0, gr⟩⟩
  intro K y ω hI hK
  obtain ⟨⟨y0, y1⟩, L2, Si, rs, ck, lvr, lsr, mem, fr, rk, by6, en6, on, cs⟩ := hI
  unfold wp_House_hand_L13
  rw [en6]
  refine ⟨fun q => ?_, fun q σ17 e17 => ?_⟩
  · have ye : y = e := by omega
    have Se : Si = S2 := by
      rcases cs with w | ⟨v, t1, w⟩
      · exact w.2
      · have := gN_le w; omega
    rw [Se] at rs
    obtain ⟨x1, x2, x3, x4, x5, x6, x7⟩ := rs
    have l2len : L2.length ≤ 880 := by rw [← AM_len db1 L2, x2]; exact hS2.1
    have usx : ∀ x, x ∈ L2 → gA τ 323 0 x.2.2.1 ≠ 0 ∧ gA τ 325 0 x.2.2.1 = 0 := fun x hx => by
      rcases mem x hx with w | w
      · exact S1.used hc w
      · rw [w]; exact ⟨by rw [ust.1]; decide, ust.2⟩
    have S2' : SA tv cf ω dk1 db1 L2 := SA.ix2 hc S1 x1 ck lvr fr rk (by omega) x6 (fun m m0 m1 => by
      have a := lvr m (by omega) m1
      have b := lsr m
      by_cases e' : m = n
      · rw [e'] at a b ⊢
        rw [if_pos rfl] at b
        rw [ee0]; omega
      · rw [if_neg e'] at b
        have := (S1.2.2.1 m m0 m1).2.2.2.1
        omega) usx
    have ol : gI ω 218 0 ≤ 8 := by
      have a := x4.length_eq
      have b := orL_len x5
      have := hS2.2.2.1
      omega
    have pr := PG.ap hc pg0 S2' ck ⟨by rw [x2]; exact x4, x5, ol⟩ ⟨l2len, by rw [x2]; exact hS2.2.1⟩ (by rw [x3]; exact hS2.2.2.2) x7 (by rw [hX]; exact Int.le_refl _) (fun x hx => by
      rcases mem x hx with w | w
      · exact Or.inl w
      · exact Or.inr ⟨nn, by rw [nτ]; exact w⟩) fr (by rw [x2, x3, ← laS_app, List.take_append_drop, laS_app]; rfl)
    exact hQ ω dk1 db1 L2 p0 S0 W0 k tko pr x2 x3 (by unfold rom; rw [fr.a 323 0 (fun q => by have q := mAq_n q; unfold mIx mRow at q; omega), fr.a 325 0 (fun q => by have q := mAq_n q; unfold mIx mRow at q; omega)]; exact rm1) sf (by rw [fr.i _ _ (fun q => by have q := mAq_n q; unfold mIx mRow at q; omega)]; exact nn) (by rw [fr.i _ _ (fun q => by have q := mAq_n q; unfold mIx mRow at q; omega)]; exact pτ) ((fr1.mono (fun f o' q => Or.inl q)).tr (fr.mono (fun f o' q => Or.inr q))) rk
  · rcases cs with w | ⟨v, t1, w⟩
    · omega
    · obtain ⟨n1, v', -, j1, okx, lt1, cs1⟩ := gN_cases w
      have n40 := j1.n
      have nb : y + n1 ≤ e := by
        rcases cs1 with x | x
        · omega
        · have := gN_le x.2; omega
      have sx : srl (gA τ 512 6) y ≤ X := by
        rcases cs1 with x | x
        · omega
        · have := gN_le x.2; omega
      have f17 : Fr (mRow 6) ω σ17 := by rw [e17]; exact (Fr.rf _ _).sI ⟨Or.inr (Or.inl rfl), rfl⟩
      have k17 : RK σ17 := by rw [e17]; exact rk.sI (by show rI y; unfold rI; omega)
      have at17 : gI σ17 513 6 = y := by rw [e17, gI_sI1]
      have by17 : gA σ17 512 6 = gA τ 512 6 := by rw [e17]; exact by6
      have F17 : Fr mAq τ σ17 := fr.tr (f17.mono (fun f o' q => Or.inr q))
      refine sp_rlen at17 y0 (by omega) (fun _ _ _ => ?_)
      rw [by17, j1.1.2.1, F17.i 206 0 (fun q => by have q := mAq_n q; unfold mIx mRow at q; omega), F17.i 207 0 (fun q => by have q := mAq_n q; unfold mIx mRow at q; omega), gn, gp, w32_id (x := p0 + y) (by unfold rI; omega)]
      have rs17 := rs.fr f17 (fun f o' a q => by unfold mRs at a; unfold mRow at q; omega)
      refine sp_ap1 (n := n1) (a := y) (r := 6) (m := n) (p := p0 + y) (Or.inl rfl) k17 rs17 okx by17 at17 y0 (by omega) j1 rn.1 hR.1 ⟨by omega, by rw [ee0]; omega⟩ (fun k k0 k1' => by rw [show p0 + y + k = p0 + (y + k) by omega]; exact (cpb _ (by omega) (by omega)).symm) on sx (fun ψ r2 x2 k2 y' ey => ?_)
      rw [w32_id (by unfold rI; omega)] at ey
      rw [ey]
      have sz := rs.1.2.1
      have f2 : Fr mAq σ17 ψ := x2.2.2.mono (fun f o' q => Or.inl q)
      refine hK (y + n1) ψ ⟨⟨by omega, nb⟩, _, _, r2, (ck.tr (CK.fr f17 (fun f x a b q => by unfold mRow at q; omega) (fun f a b q => by unfold mRow at q; omega))).tr x2.1, fun m m0 m1 => ?_, fun m => ?_, fun x hx => ?_, F17.tr f2, k2, by rw [x2.2.2.a _ _ (fun q => by unfold mAp mIx mOr at q; omega)]; exact by17, by rw [x2.2.2.i _ _ (fun q => by unfold mAp mIx mOr at q; omega), show gI σ17 514 6 = gI ω 514 6 by rw [e17, gI_sIo (by decide)]]; exact en6, ?_, ?_⟩ (by omega)
      · have a := x2.2.1 m m0 m1
        rw [f17.a 324 0 (fun q => by unfold mRow at q; omega)] at a
        rw [a]; exact lvr m m0 m1
      · have a := lS_ap (g := gA τ 512 6) (a := y) (n := n1) (m := n) (p := p0 + y) sz (by omega) m
        have b := lsr m
        by_cases e' : m = n
        · rw [if_pos e'] at a b ⊢; omega
        · rw [if_neg e'] at a b ⊢; omega
      · rcases apL_mem hx with q' | ⟨q', -⟩
        · exact mem x q'
        · exact Or.inr q'
      · have nd : ndV tv (db1 n) (p0 + y) n1 := (j1.sh (fun k k0 k1' => by rw [show p0 + y + k = p0 + (y + k) by omega]; exact (cpb _ (by omega) (by omega)).symm)).v
        have := on.n nd
        rw [show p0 + (y + n1) = p0 + y + n1 by omega]
        exact this
      · rcases cs1 with ⟨-, -, x3, -, x5⟩ | ⟨-, x⟩
        · exact Or.inl ⟨x3.symm, x5.symm⟩
        · exact Or.inr ⟨v', _, x⟩
