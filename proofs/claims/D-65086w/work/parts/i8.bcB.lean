/-! Store.beginCommit, from the flush of the mover on: the walk -/
theorem sp_bcB {tv : Nat → Int} {cf : Cf} {σ σ1 σ10 : St} {dk dk1 dk9 : Int → Int} {db db1 db9 : Int → Int → Int} {B c0 b0 cO lO s G : Int} {r : RT} {L : List (Int × Int × Int × Int × Int × Int)} {Q : St → Prop} (hc : CfOK cf) (h : SA tv cf σ dk db L) (hL : L.length ≤ 880) (hr : 0 ≤ s ∧ s < 3000000000000000000) (hN : BCn tv cf σ dk db L c0 cO lO s) (hG : cst cf (fS σ (krt σ 0)) + G ≤ emp cf (gA σ 323 0)) (fl1 : flu σ1 2) (pl1 : gI σ 451 2 ≠ -1 → gI σ1 452 2 ≤ gI σ 452 2 + 127) (lg1 : LGo cf σ σ1 dk dk1 db db1) (d1 : ∀ m, m ≠ gI σ 451 2 → dk1 m = dk m ∧ ∀ p, db1 m p = db m p) (d9 : ∀ m, m ≠ 5 - lO → dk9 m = dk1 m ∧ ∀ p, db9 m p = db1 m p) (dk9l : dk9 (5 - lO) = 1) (S10 : SA tv cf σ10 dk9 db9 L) (D10 : DJ tv cf σ10 0 dk9 db9 (SpC cf c0 b0 r) (B + 6)) (k10 : RK σ10) (F10 : Fr mBg σ σ10) (f110 : Fr mB3 σ1 σ10) (bc10 : gI σ10 211 0 = gI σ 211 0) (bd10 : gA σ10 210 0 = gA σ 210 0) (us10 : gA σ10 323 0 = gA σ 323 0) (LP9 : lgP tv dk9 db9 (5 - lO) (s + 1) (cO + 1) (AM db9 L)) (s10 : gI σ10 202 0 = s + 1) (l10 : gI σ10 208 0 = 5 - lO) (ol3 : gI σ10 219 0 = lO) (c5 : gI σ10 212 0 = cO + 1) (lo10 : gI σ10 209 0 = 1)
    (hQ : ∀ τ dk' db' R NW, SA tv cf τ dk' db' L → DJ tv cf τ 0 dk' db' (SpC cf c0 b0 r) (B + 6) → CI tv cf τ dk' db' L (cO + 1) (5 - lO) (s + 1) (gI τ 202 0) 0 0 G R NW ((krt σ 0).filter (fun x => decide (gI σ 584 x = 0))) → fS τ R = fS σ (krt σ 0) → NBd tv τ dk' db' (5 - lO) s → BCo cf σ τ dk dk' db db' lO → RK τ → Q τ) : lQ1 (wp_Store_beginCommit_L182 cf tv 0 Q) 0 σ10 := by
  have hR : 0 ≤ cf.2.2 ∧ cf.2.2 ≤ 4 := hc.2.2
  have hP : 8 ≤ cf.2.1 ∧ cf.2.1 ≤ 32 := hc.2.1
  have hBl : 24 ≤ cf.1 ∧ cf.1 ≤ 64 := hc.1
  have lOr : 2 ≤ 5 - lO ∧ 5 - lO ≤ 3 := by have := hN.1.2.1; omega
  have g13 := hN.2.2.2.2.2.2.1.1
  have g14 := hN.2.2.2.2.2.2.1.2
  have nwB : ∀ w, (w = 0 ∨ w = 2 ∨ w = 4) → ¬ mBg 451 w := fun w hw q => by unfold mBg mWr mMl mBw mMv mRow mB2 at q; omega
  have wn10 : ∀ w, isW 0 w → gI σ10 451 w = gI σ 451 w := fun w hw => F10.i _ _ (nwB w (by unfold isW at hw; omega))
  have hl10 : ∀ m, hld σ10 0 m ↔ hld σ 0 m := fun m => ⟨fun ⟨v, v1, v2⟩ => ⟨v, v1, by rw [← wn10 v v1]; exact v2⟩, fun ⟨v, v1, v2⟩ => ⟨v, v1, by rw [wn10 v v1]; exact v2⟩⟩
  refine sp_bcbuds (n := gI σ 211 0) k10 bc10 g13 (fun k k0 k1 => by rw [bd10]; have := (g14 k k0 k1).1; omega) (fun σ11 K2 u11 v11 f11 k11 => ?_)
  rw [us10, bd10, wn10 0 (Or.inl rfl)] at u11
  rw [bd10, wn10 0 (Or.inl rfl)] at v11
  have S11 := S10.use1 f11 k11 (fun m => by
    rw [us10]
    rcases u11 m with q | ⟨q1, k, q2, q3, q4⟩
    · exact Or.inl q
    · have w := g14 k q2.1 q2.2
      rw [q3] at w
      refine Or.inr ⟨q1, w.2.1, fun z => ?_⟩
      rcases w.2.2 with y | y
      · exact q4 y
      · exact y ((hl10 m).mp z))
  have D11 := D10.fr f11 (fun f o' a q => by unfold rBI at a; omega)
  have F11 : Fr mBg σ σ11 := F10.tr (f11.mono (fun f o' q => Or.inr (Or.inr (Or.inr (Or.inr ⟨by omega, q.2⟩)))))
  unfold wp_Store_beginCommit_L182
  rw [f11.i 211 0 (fun q => by omega), bc10]
  refine ⟨fun _ σ12 e12 => ?_, fun q => absurd (Int.le_refl _) q⟩
  have f12 : Fr (fun f o' => f = 211 ∧ o' = 0) σ11 σ12 := by rw [e12]; exact (Fr.rf _ _).sI ⟨rfl, rfl⟩
  have k12 : RK σ12 := by rw [e12]; exact k11.sI (by show rI 0; unfold rI; omega)
  have S12 := S11.fr f12 (fun f o' a q => by unfold mSA isW at a; omega) k12
  have D12 := D11.fr f12 (fun f o' a q => by unfold rBI at a; omega)
  have F12 : Fr mBg σ σ12 := F11.tr (f12.mono (fun f o' q => Or.inr (Or.inr (Or.inr (Or.inr ⟨by omega, q.2⟩)))))
  have f1012 : Fr (fun f o' => (f = 323 ∨ f = 211) ∧ o' = 0) σ10 σ12 := (f11.mono (fun f o' q => ⟨Or.inl q.1, q.2⟩)).tr (f12.mono (fun f o' q => ⟨Or.inr q.1, q.2⟩))
  have s12 : gI σ12 202 0 = s + 1 := (f1012.i _ _ (fun q => by omega)).trans s10
  have l12 : gI σ12 208 0 = 5 - lO := (f1012.i _ _ (fun q => by omega)).trans l10
  have lo12 : gI σ12 209 0 = 1 := (f1012.i _ _ (fun q => by omega)).trans lo10
  have bc12 : gI σ12 211 0 = 0 := by rw [e12, gI_sI1]
  have us12 : gA σ12 323 0 = gA σ11 323 0 := f12.a _ _ (fun q => by omega)
  have wn12 : ∀ w, isW 0 w → gI σ12 451 w = gI σ 451 w := fun w hw => F12.i _ _ (nwB w (by unfold isW at hw; omega))
  have wp12 : gI σ12 452 0 = gI σ 452 0 := F12.i _ _ (fun q => by unfold mBg mWr mMl mBw mMv mRow mB2 at q; omega)
  -- the end: from a state behind the log
  have fin : ∀ σ13 dk' db', SA tv cf σ13 dk' db' L → DJ tv cf σ13 0 dk' db' (SpC cf c0 b0 r) (B + 6) → Fr (mLb 0) σ12 σ13 → (∀ m, m ≠ 5 - lO → dk' m = dk9 m ∧ ∀ p, db' m p = db9 m p) → lgP tv dk' db' (5 - lO) (s + 1) (cO + 1) (AM db' L) → s + 1 ≤ gI σ13 202 0 → NBd tv σ13 dk' db' (5 - lO) s → RK σ13 → wp_Store_beginCommit_b261 cf tv 0 Q σ13 := by
    intro σ13 dk' db' S13 D13 f13' dd lp sge nbd k13
    have ust : gA σ13 323 0 = gA σ11 323 0 := by
      rw [f13'.a _ _ (fun q => by unfold mLb mBw mRow at q; omega), us12]
    have F13 : Fr mBg σ σ13 := F12.tr (f13'.mono mLb_Bg)
    have f113 : Fr mB3 σ1 σ13 := (f110.tr (f1012.mono (fun f o' q => Or.inr (Or.inr (Or.inr ⟨by omega, q.2⟩))))).tr (f13'.mono mLb_B3)
    refine sp_bcfin hc h hL hN hG fl1 pl1 lg1 d1 (fun m ne => ⟨by rw [(dd m ne).1, (d9 m ne).1], fun p => by rw [(dd m ne).2, (d9 m ne).2]⟩) S13 D13 F13 f113 (by rw [ust]; exact u11) (by rw [ust]; exact v11) lp sge ?_ ?_ ?_ nbd k13 hQ
    · rw [f13'.i _ _ (fun q => by unfold mLb mBw mRow at q; omega)]; exact l12
    · rw [f13'.i _ _ (fun q => by unfold mLb mBw mRow at q; omega), f1012.i _ _ (fun q => by omega)]; exact ol3
    · rw [f13'.i _ _ (fun q => by unfold mLb mBw mRow at q; omega), f1012.i _ _ (fun q => by omega)]; exact c5
  refine ⟨fun q => fin σ12 dk9 db9 S12 D12 (Fr.rf _ _) (fun m _ => ⟨rfl, fun _ => rfl⟩) LP9 (by omega) ⟨by rw [lo12, dk9l], Or.inl ⟨q, dk9l, s12, bc12⟩⟩ k12, fun q => ?_⟩
  have rn := S12.rn (w := 0) (Or.inl rfl) q
  refine sp_logBud hc (Or.inl rfl) D12 (lg := 5 - lO) (k := 1) (bc := 0) l12 ⟨by omega, by omega⟩ (by omega) lo12 (by rw [dk9l]; rfl) (by omega) bc12 (by omega) s12 ⟨by omega, by omega⟩ (by unfold rI; omega) (by unfold rI; omega) (fun σ13 g D13 sp13 s13 lo13 bc13 bd13 fl k13 _ => ?_)
  have nlb : ∀ f x, mSA f x → ¬ mLb 0 f x := fun f x a q => by unfold mSA isW at a; unfold mLb mBw mRow at q; omega
  have u13 : upF dk9 (5 - lO) (1 + 1) (5 - lO) = 2 := by unfold upF; rw [if_pos rfl]; rfl
  have dd13 : ∀ m, m ≠ 5 - lO → upF dk9 (5 - lO) (1 + 1) m = dk9 m ∧ ∀ p, putB db9 (5 - lO) (128 * 1) 128 g m p = db9 m p := fun m ne => ⟨by unfold upF; rw [if_neg ne], fun p => by unfold putB; rw [if_neg (fun w => ne w.1)]⟩
  have am13 : AM (putB db9 (5 - lO) (128 * 1) 128 g) L = AM db9 L := AM.grow S12.2.1.2.2 (fun e he p p0 p1 => (dd13 _ (by have := (S12.2.1.2.2 e he).1; omega)).2 p)
  have S13 : SA tv cf σ12 (upF dk9 (5 - lO) (1 + 1)) (putB db9 (5 - lO) (128 * 1) 128 g) L := S12.low (fun m m0 m1 => dd13 m (by omega))
  have S13' := S13.fr fl nlb k13
  have lp13 : lgP tv (upF dk9 (5 - lO) (1 + 1)) (putB db9 (5 - lO) (128 * 1) 128 g) (5 - lO) (s + 1) (cO + 1) (AM (putB db9 (5 - lO) (128 * 1) 128 g) L) := by
    rw [am13]
    exact LP9.ext2 (by rw [u13]; omega) (fun i i0 i1 => by unfold putB; rw [if_neg (fun w => by omega)])
  refine fin σ13 (upF dk9 (5 - lO) (1 + 1)) (putB db9 (5 - lO) (128 * 1) 128 g) S13' D13 fl dd13 lp13 (by omega) ⟨by rw [lo13, u13]; rfl, Or.inr ⟨?_, u13, ?_, by omega, by rw [bc13]; rfl, ?_⟩⟩ k13
  · rw [fl.i _ _ (fun z => by unfold mLb mBw mRow at z; omega)]; exact q
  · rw [fl.i 451 0 (fun z => by unfold mLb mBw mRow at z; omega), fl.i 452 0 (fun z => by unfold mLb mBw mRow at z; omega), show s + 2 = s + 1 + 1 by omega]
    exact sp13
  · rw [bd13, fl.i 451 0 (fun z => by unfold mLb mBw mRow at z; omega)]; unfold upF; rw [if_pos rfl]
