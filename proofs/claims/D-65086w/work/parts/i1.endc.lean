/-! Store.endCommit -/
theorem gI_sIo {σ : St} {f f' : Nat} {o o' v : Int} (h : f' ≠ f) : gI (sI σ f o v) f' o' = gI σ f' o' := by rw [gI_sI, if_neg (fun q => h q.1)]
/-- what is in use has bytes, and no first node with a serial number behind b -/
def NSb (cf : Cf) (σ : St) (dk : Int → Int) (db : Int → Int → Int) (b : Int) : Prop := ∀ m, 4 + cf.2.2 ≤ m → m < cf.1 - 6 → gA σ 323 0 m ≠ 0 → 24 ≤ eE σ 0 dk m ∧ rI4 (db m) 4 ≠ 0 ∧ srl (db m) 0 ≤ b
/-- in a commit: what came behind serial number b has knots that count -/
def NSc (cf : Cf) (σ : St) (db : Int → Int → Int) (b : Int) : Prop := ∀ m, 4 + cf.2.2 ≤ m → m < cf.1 - 6 → gA σ 323 0 m ≠ 0 → srl (db m) 0 ≤ b ∨ ∃ x, x ∈ krt σ 0 ∧ gI σ 584 x = 0 ∧ gI σ 585 x = m
def mEc (f : Nat) (o' : Int) : Prop := mTb f o' ∨ mWr 4 f o' ∨ mRow 4 f o' ∨ mMl f o' ∨ ((f = 324 ∨ f = 323 ∨ f = 390 ∨ f = 202 ∨ f = 213 ∨ f = 223 ∨ f = 225) ∧ o' = 0)
/-- in a commit: heads, log, masters, numbers in use -/
def CBs (tv : Nat → Int) (cf : Cf) (σ : St) (dk : Int → Int) (db : Int → Int → Int) (L : List (Int × Int × Int × Int × Int × Int)) (c lg lr s : Int) : Prop := (flu σ 0 ∧ flu σ 2) ∧ (gI σ 208 0 = lg ∧ (lg = 2 ∨ lg = 3) ∧ gI σ 219 0 = 5 - lg ∧ gI σ 212 0 = c ∧ 0 ≤ c ∧ c < 1073741824) ∧ lgP tv dk db lg lr c (AM db L) ∧ (lr ≤ s ∧ ∀ m, (m = 0 ∨ m = 1) → ∀ k, 0 ≤ k → k < dk m → srl (db m) (128 * k) ≤ s) ∧ (1 ≤ dk (5 - lg) → rI4 (db (5 - lg)) 24 ≤ c) ∧ NSb cf σ dk db s ∧ NSc cf σ db lr
/-- before the end of a commit -/
def CEn (tv : Nat → Int) (cf : Cf) (σ : St) (dk : Int → Int) (db : Int → Int → Int) (L : List (Int × Int × Int × Int × Int × Int)) (c lg lr s : Int) : Prop := (∀ x, x ∈ krt σ 0 → gI σ 584 x = 0) ∧ CBs tv cf σ dk db L c lg lr s
/-- behind the end of a commit -/
def ECo (tv : Nat → Int) (cf : Cf) (σ τ : St) (dk dk' : Int → Int) (db db' : Int → Int → Int) (L : List (Int × Int × Int × Int × Int × Int)) (c lg lr s : Int) : Prop :=
  (∃ (l : Nat) (z : Int), krt τ 0 = kl τ l z ∧ gI τ 387 0 = z ∧ ls τ l z = L ∧ FC tv cf dk' db' τ l z c lg lr (s + 2) (gI σ 203 0) (gI τ 214 0) (gI τ 215 0)) ∧ (NSb cf τ dk' db' (s + 2) ∧ srl (db' (gI τ 214 0)) (gI τ 215 0) = s + 1) ∧ (gI τ 202 0 = s + 2 ∧ gI τ 213 0 = 0 ∧ gI τ 223 0 = -1 ∧ gI τ 225 0 = 0 ∧ gI τ 390 0 = 0) ∧ (krt τ 0 = krt σ 0 ∧ ∀ x, KE σ τ x ∧ OE σ τ x) ∧ (∃ σ2, KHo cf σ σ2 (tbl cf) ∧ (∀ k, swp cf (gA σ2 323 0) (gA τ 324 0) (cf.1 - 6) k → gA τ 323 0 k = 0) ∧ (∀ k, ¬ swp cf (gA σ2 323 0) (gA τ 324 0) (cf.1 - 6) k → gA τ 323 0 k = gA σ2 323 0 k) ∧ gA τ 325 0 = gA σ2 325 0 ∧ gI τ 451 4 = gI σ2 451 4 ∧ gI τ 214 0 = gI σ2 451 4) ∧ ((∀ m, 2 ≤ m → m < 4 + cf.2.2 → m ≠ 5 - lg → dk' m = dk m) ∧ dk' (5 - lg) = -1) ∧ (∀ m, 2 ≤ m → m < cf.1 - 6 → m ≠ 5 - lg → (4 + cf.2.2 ≤ m → gA τ 323 0 m ≠ 0) → lmF dk m ≤ lmF dk' m ∧ eE σ 0 dk m ≤ eE τ 0 dk' m ∧ ∀ p, p < eE σ 0 dk m → db' m p = db m p) ∧ flu τ 4 ∧ Fr mEc σ τ ∧ AM db' L = AM db L
theorem sp_endCommit {tv : Nat → Int} {cf : Cf} {σ : St} {dk : Int → Int} {db : Int → Int → Int} {B c lg lr s c0 b0 : Int} {r : RT} {L : List (Int × Int × Int × Int × Int × Int)} {Q : St → Prop} (hc : CfOK cf) (h : SA tv cf σ dk db L) (hD : DJ tv cf σ 0 dk db (SpC cf c0 b0 r) B) (hB : B + 402 < 1073741000) (hc0 : c0 ≤ c) (hb0 : b0 ≤ lr) (hE : (gI σ 451 4 = -1 ∨ (cf.2.1 - 2) * 128 < gI σ 452 4 + tbl cf) → 1 ≤ emp cf (gA σ 323 0)) (hL : L.length ≤ 880) (hs : gI σ 202 0 = s) (hr : 0 ≤ s ∧ s < 4000000000000000000) (hnx : 0 ≤ gI σ 203 0 ∧ gI σ 203 0 < 1073741824) (hC : CEn tv cf σ dk db L c lg lr s)
    (hQ : ∀ τ dk' db', SA tv cf τ dk' db' L → DJ tv cf τ 0 dk' db' (SpC cf c lr r) (B + 402) → ECo tv cf σ τ dk dk' db db' L c lg lr s → RK τ → Q τ) : wp_Store_endCommit cf tv 0 Q σ := by
  have hR : 0 ≤ cf.2.2 ∧ cf.2.2 ≤ 4 := hc.2.2
  have hP : 8 ≤ cf.2.1 ∧ cf.2.1 ≤ 32 := hc.2.1
  have hBl : 24 ≤ cf.1 ∧ cf.1 ≤ 64 := hc.1
  have tr := tbl_r hc
  obtain ⟨cf1, ⟨cf2, cf3⟩, ⟨cl1, cl2, cl3, cl4, cl5⟩, clg, ⟨clr, cm⟩, cold, cns, cnc⟩ := hC
  have hD0 : DJ tv cf σ 0 dk db (SpC cf c lr r) B := hD.sp (fun n w pg _ _ _ _ q => q.mono hc0 hb0 (fun _ _ _ z => z)) (fun n w pg n0 n1 => ⟨fun q => ⟨fun a b => by omega, fun a b => q.2.1 a b, fun a => by omega⟩, fun q => ⟨fun a b => by omega, fun a b => q.2.1 a b, fun a => by omega⟩⟩)
  unfold wp_Store_endCommit
  refine sp_siw hc h (fun σ1 S1 o1 lv1 f1 => ?_)
  have D1 := hD0.fr f1 (fun f o' a q => by unfold rBI at a; omega)
  have u1 : gA σ1 323 0 = gA σ 323 0 := f1.a _ _ (fun q => by omega)
  refine sp_writeTable hc S1 D1 (fun q => by rw [u1]; exact hE (by rw [f1.i 451 4 (fun q => by omega), f1.i 452 4 (fun q => by omega)] at q; exact q)) ((f1.i _ _ (fun q => by omega)).trans hs) ⟨hr.1, by omega⟩ (fun σ2 dk2 db2 S2 D2 t1 t2 t3 t4 t5 t6 kh ck kr ko ol lg12 f2 => ?_)
  refine sp_saflush hc S2 D2 (w := 0 + 4) (Or.inr (Or.inr rfl)) (fun σ3 dk3 db3 S3 D3 n3 fl3 p3 d3 lg23 f3 => ?_)
  -- frames up to here
  have lg01 : LGo cf σ σ1 dk dk db db := LGo.fr f1 (fun f w _ a b q => by omega)
  have lg03 : LGo cf σ σ3 dk dk3 db db3 := (lg01.tr lg12).tr lg23
  have m0 : Fr mEc σ σ1 := f1.mono (fun f o' q => Or.inr (Or.inr (Or.inr (Or.inr ⟨by omega, q.2⟩))))
  have m1 : Fr mEc σ σ2 := m0.tr (f2.mono (fun f o' q => Or.inl q))
  have m3 : Fr mEc σ σ3 := m1.tr (f3.mono (fun f o' q => Or.inr (Or.inl q)))
  have nkE : ∀ f x, 576 ≤ f → f ≤ 587 → ¬ mEc f x := fun f x a b q => by unfold mEc mTb mWt mMd mRow mRm mWc mSf mWr mMl mBw mMv at q; omega
  have nrE : ∀ x, ¬ mEc 387 x := fun x q => by unfold mEc mTb mWt mMd mRow mRm mWc mSf mWr mMl mBw mMv at q; omega
  have nsE : ∀ f, (f = 208 ∨ f = 219 ∨ f = 212 ∨ f = 203) → ¬ mEc f 0 := fun f hf q => by unfold mEc mTb mWt mMd mRow mRm mWc mSf mWr mMl mBw mMv at q; omega
  have nwE : ∀ f w, (f = 451 ∨ f = 452) → (w = 0 ∨ w = 2) → ¬ mEc f w := fun f w hf hw q => by unfold mEc mTb mWt mMd mRow mRm mWc mSf mWr mMl mBw mMv at q; omega
  rw [m3.i 212 0 (nsE _ (by omega)), m3.i 208 0 (nsE _ (by omega)), cl4, cl1]
  refine sp_sheetOf (Or.inl rfl) (by omega) (by unfold rI; omega) (by unfold rI; omega) (fun σ4 b4 a4 f4 k4 _ => ?_)
  have m4 : Fr mEc σ σ4 := m3.tr (f4.mono (fun f o' q => Or.inr (Or.inr (Or.inl q))))
  have f34 : ∀ {f : Nat} {x : Int}, f < 512 ∨ 514 < f → gI σ4 f x = gI σ3 f x := fun {f x} hf => f4.i _ _ (fun q => by unfold mRow at q; omega)
  have zr : 0 ≤ gI σ 387 0 := by
    obtain ⟨l, z, i1, i2, i3, i4, i5, i6, -⟩ := h.2.1.1.1
    have := (i6 z (kl_self σ l z)).2.1
    omega
  have ts3 : gI σ3 216 0 = tbl cf := by
    rcases S3.2.2.2.2.2.2.1 with q | q
    · have e : gI σ3 214 0 = gI σ2 214 0 := f3.i _ _ (fun q => by unfold mWr mBw at q; omega)
      exact absurd (e.symm.trans q) (by rw [t1]; exact t3)
    · exact q.2.1
  have f23 : ∀ {f : Nat}, (f = 214 ∨ f = 215 ∨ f = 202) → gI σ3 f 0 = gI σ2 f 0 := fun {f} hf => f3.i _ _ (fun q => by unfold mWr mBw at q; omega)
  refine sp_mrow (c := c) (lg := lg) (n := gI σ 585 (gI σ 387 0)) (p := gI σ 586 (gI σ 387 0)) (s := gI σ 587 (gI σ 387 0)) (nx := gI σ 203 0) (tn := gI σ2 214 0) (tp := gI σ2 215 0) (ts := tbl cf) k4 a4 b4 (by rw [m4.i _ _ (nrE 0)]; exact zr) (by rw [m4.i _ _ (nrE 0)]; exact m4.i _ _ (nkE _ _ (by decide) (by decide))) (by rw [m4.i _ _ (nrE 0)]; exact m4.i _ _ (nkE _ _ (by decide) (by decide))) (by rw [m4.i _ _ (nrE 0)]; exact m4.i _ _ (nkE _ _ (by decide) (by decide))) (m4.i _ _ (nsE _ (by omega))) (by rw [f34 (by decide)]; exact f23 (by omega)) (by rw [f34 (by decide)]; exact f23 (by omega)) (by rw [f34 (by decide)]; exact ts3) (fun σ5 b5 r1 r2 r3 r4 r5 r6 r7 a5 f5 k5 => ?_)
  have m5 : Fr mEc σ σ5 := m4.tr (f5.mono (fun f o' q => Or.inr (Or.inr (Or.inl ⟨Or.inl q.1, q.2⟩))))
  have s5 : gI σ5 202 0 = s + 1 := by rw [f5.i _ _ (fun q => by unfold mRb at q; omega), f34 (by decide), f23 (by omega)]; exact t6
  refine sp_shclose (Or.inl rfl) a5 b5 s5 ⟨by omega, by omega⟩ (fun σ6 b6 c6 s6 a6 f6 k6 => ?_)
  have m6 : Fr mEc σ σ6 := m5.tr (f6.mono (fun f o' q => by
    rcases q with q | q
    · exact Or.inr (Or.inr (Or.inl ⟨Or.inl q.1, q.2⟩))
    · exact Or.inr (Or.inr (Or.inr (Or.inr ⟨by omega, q.2⟩)))))
  have f36 : Fr (fun f o' => mRow 4 f o' ∨ (f = 202 ∧ o' = 0)) σ3 σ6 := ((f4.mono (fun f o' q => Or.inl q)).tr (f5.mono (fun f o' q => Or.inl ⟨Or.inl q.1, q.2⟩))).tr (f6.mono (fun f o' q => by
    rcases q with q | q
    · exact Or.inl ⟨Or.inl q.1, q.2⟩
    · exact Or.inr q))
  have S6 := S3.fr f36 (fun f o' a q => by unfold mSA isW at a; unfold mRow at q; omega) k6
  have D6 := D3.fr f36 (fun f o' a q => by unfold rBI at a; unfold mRow at q; omega)
  have R6 : ∀ j, 18 ≤ j → rI4 (gA σ6 512 4) j = rI4 (gA σ5 512 4) j := fun j j0 => rI4_ext (fun i i0 i1 => c6 i (by omega))
  have ms6 : msP tv cf (gA σ6 512 4) 0 (s + 2) c lg (gI σ 585 (gI σ 387 0)) (gI σ 586 (gI σ 387 0)) (gI σ 587 (gI σ 387 0)) (gI σ 203 0) (gI σ2 214 0) (gI σ2 215 0) := by
    refine ⟨by rw [show s + 2 = s + 1 + 1 by omega]; exact b6, ?_, ?_, ?_, ?_, ?_, ?_, ?_⟩
    · rw [show (0 : Int) + 32 = 32 by omega, R6 _ (by omega)]; exact r1
    · rw [show (0 : Int) + 36 = 36 by omega, R6 _ (by omega)]; exact r2
    · rw [show (0 : Int) + 40 = 40 by omega, R6 _ (by omega)]; exact r3
    · rw [show (0 : Int) + 44 = 44 by omega, R6 _ (by omega)]; exact r4
    · rw [show (0 : Int) + 48 = 48 by omega, R6 _ (by omega)]; exact r5
    · rw [show (0 : Int) + 52 = 52 by omega, R6 _ (by omega)]; exact r6
    · rw [show (0 : Int) + 56 = 56 by omega, R6 _ (by omega)]; exact r7
  have nhl : ∀ m, m < 4 + cf.2.2 → 0 ≤ m → eE σ 0 dk m = lmF dk m := fun m m1 m0 => eE_no (fun w hw e => by
    rcases h.1.1.all.1 w hw with q | q
    · omega
    · have := q.1.1
      omega)
  -- the low numbers up to σ3
  have lo3 : ∀ m, 0 ≤ m → m < 4 + cf.2.2 → dk3 m = dk m ∧ ∀ p, p < lmF dk m → db3 m p = db m p := fun m m0 m1 => ⟨lg03.2 m m0 m1, fun p p1 => (lg03.1 m m0 (by omega)).2.2 p (by rw [nhl m m1 m0]; exact p1)⟩
  refine sp_mloop hc k6 D6 (by omega) (fun m w pg hm => ⟨fun a => absurd a (by omega), fun a => absurd a (by omega), fun a => absurd a (by omega)⟩) ms6 (fun m hm k k0 k1 => ?_) (by omega) (fun σ7 dk7 db7 D7 M7 g7 f7 k7 K => ?_)
  · obtain ⟨a, b⟩ := lo3 m (by omega) (by omega)
    rw [a] at k1
    have e : srl (db3 m) (128 * k) = srl (db m) (128 * k) := srl_ext (n := 128) (by omega) (fun p p0 p1 => b p (by unfold lmF; omega))
    have := cm m hm k k0 k1
    omega
  have m7 : Fr mEc σ σ7 := m6.tr (f7.mono (fun f o' q => Or.inr (Or.inr (Or.inr (Or.inl q)))))
  have S7 := (S6.low (dk' := dk7) (db' := db7) (fun m m0 m1 => g7 m (by omega))).fr f7 (fun f o' a q => by unfold mSA isW at a; unfold mMl mBw mMv at q; omega) k7
  unfold wp_Store_endCommit_L137
  refine ⟨fun _ => ?_, fun q => absurd (by omega) q⟩
  rw [m7.i 219 0 (nsE _ (by omega)), cl3]
  have so : dk7 (5 - lg) = dk (5 - lg) := by rw [(g7 _ (by omega)).1, (lo3 _ (by omega) (by omega)).1]
  refine sp_jdrop hc k7 D7 (n := 5 - lg) ⟨by omega, by omega⟩ (by omega) (fun w w0 w1 => ⟨fun _ _ => ?_, fun a => absurd a (by omega), fun a => absurd a (by omega)⟩) (by omega) (fun σ8 D8 _ f8 k8 _ => ?_)
  · by_cases q : w ≤ 0
    · exact Or.inl q
    · refine Or.inr ?_
      rw [so] at w1
      have e : rI4 (pgs db7 (5 - lg) 0) 24 = rI4 (db (5 - lg)) 24 := rI4_ext (fun i i0 i1 => by
        show db7 (5 - lg) (128 * 0 + i) = _
        rw [(g7 _ (by omega)).2, show 128 * 0 + i = i by omega]
        exact (lo3 _ (by omega) (by omega)).2 i (by unfold lmF; omega))
      rw [e]
      exact cold (by omega)
  have m8 : Fr mEc σ σ8 := m7.tr (f8.mono (fun f o' q => Or.inr (Or.inr (Or.inr (Or.inl (Or.inr q))))))
  have S8 := (S7.low (dk' := upF dk7 (5 - lg) (-1)) (db' := db7) (fun m m0 m1 => ⟨by unfold upF; rw [if_neg (by omega)], fun _ => rfl⟩)).fr f8 (fun f o' a q => by unfold mSA isW at a; unfold mMv at q; omega) k8
  have f38 : Fr (fun f o' => mRow 4 f o' ∨ mMl f o' ∨ (f = 202 ∧ o' = 0)) σ3 σ8 := ((f36.mono (fun f o' q => by rcases q with q | q; exact Or.inl q; exact Or.inr (Or.inr q))).tr (f7.mono (fun f o' q => Or.inr (Or.inl q)))).tr (f8.mono (fun f o' q => Or.inr (Or.inl (Or.inr q))))
  have f28 : Fr (fun f o' => mWr 4 f o' ∨ mRow 4 f o' ∨ mMl f o' ∨ (f = 202 ∧ o' = 0)) σ2 σ8 := (f3.mono (fun f o' q => Or.inl q)).tr (f38.mono (fun f o' q => Or.inr q))
  have us8 : gA σ8 323 0 = gA σ2 323 0 := f28.a _ _ (fun q => by unfold mWr mRow mMl mBw mMv at q; omega)
  have lv8 : gA σ8 324 0 = gA σ2 324 0 := f28.a _ _ (fun q => by unfold mWr mRow mMl mBw mMv at q; omega)
  have ox8 : gA σ8 325 0 = gA σ2 325 0 := f28.a _ _ (fun q => by unfold mWr mRow mMl mBw mMv at q; omega)
  have kh' : KHo cf σ σ2 (tbl cf) := by
    unfold KHo at kh ⊢
    rw [f1.i 451 4 (fun q => by omega), f1.i 452 4 (fun q => by omega), u1, f1.a 325 0 (fun q => by omega)] at kh
    exact kh
  have wu4 := h.2.2.2.1 4 (Or.inr (Or.inr rfl))
  -- what is in use behind the table was in use ahead of it, or is the new head of knots
  have usd : ∀ m, 0 ≤ m → gA σ2 323 0 m ≠ 0 → gA σ 323 0 m ≠ 0 ∨ (m = gI σ2 451 4 ∧ gI σ2 452 4 = tbl cf) := by
    intro m m0 hm
    rcases kh' with ⟨q1, q2, q3, q4, q5⟩ | ⟨q1, q2, q3, q4, q5, q6⟩
    · rw [q4] at hm; exact Or.inl hm
    · by_cases e : m = gI σ2 451 4
      · exact Or.inr ⟨e, q2⟩
      · refine Or.inl ?_
        rw [q5 m m0, if_neg e] at hm
        by_cases e2 : m = gI σ 451 4
        · rw [e2]
          have := wu4 (by omega)
          omega
        · rw [if_neg e2] at hm; exact hm
  have dbm : ∀ m, 4 + cf.2.2 ≤ m → m < cf.1 - 6 → ∀ p, p < eE σ 0 dk m → db7 m p = db m p := fun m m0 m1 p p1 => by
    rw [(g7 m (by omega)).2]; exact (lg03.1 m (by omega) m1).2.2 p p1
  refine sp_sweep hc k8 D8 (by omega) (fun k k0 k1 hu hl w w0 w1 => ⟨fun _ a => absurd a (by omega), fun _ a => absurd a (by omega), fun _ => ?_⟩) (fun σ9 dk9 D9 sw1 sw2 f9 k9 _ => ?_)
  · refine Or.inr ?_
    rw [us8] at hu
    rw [lv8] at hl
    have a3 := (S2.2.2.1 k k0 k1).2.2.1
    have nn := S2.nn hc (m := k) (by omega)
    have hu0 : gA σ 323 0 k ≠ 0 := by
      rcases usd k (by omega) (by omega) with q | q
      · exact q
      · exfalso
        have e : k = gI σ2 214 0 := by rw [t1]; exact q.1
        have := nn.2.2.2.2 e
        omega
    obtain ⟨b1, b2, b3⟩ := cns k k0 k1 hu0
    have e4 : rI4 (pgs db7 k 0) 4 = rI4 (db k) 4 := rI4_ext (fun i i0 i1 => by
      show db7 k (128 * 0 + i) = _
      rw [show 128 * 0 + i = i by omega]
      exact dbm k k0 k1 i (by omega))
    have e8 : rL8 (pgs db7 k 0) 8 = srl (db k) 0 := by
      unfold srl
      exact rL8_ext (fun i i0 i1 => by
        show db7 k (128 * 0 + i) = _
        rw [show 128 * 0 + i = i by omega]
        exact dbm k k0 k1 i (by omega))
    rw [e4, e8]
    refine ⟨b2, ?_⟩
    rcases cnc k k0 k1 hu0 with q | ⟨x, x1, x2, x3⟩
    · exact q
    · exfalso
      have o2 : OE σ σ2 x := by
        have z := krt_fr (o := 0) m1 nkE (nrE 0)
        exact (z.2 x).2
      have kr2 : krt σ2 0 = krt σ 0 := (krt_fr (o := 0) m1 nkE (nrE 0)).1
      have p := kS_pos (σ := σ2) (K := krt σ2 0) (fun y hy fy => ((S2.2.2.2.2.1 y hy fy).1.sz (krt_cnt S2.2.1.1.1 y hy)).1) x (by rw [kr2]; exact x1) (by rw [o2.1]; exact x2)
      rw [o2.2.1, x3] at p
      omega
  · rw [us8, lv8] at sw1 sw2
    intro τa ea τb eb τ eτ
    have f9t : Fr (fun f o' => (f = 213 ∨ f = 223 ∨ f = 225) ∧ o' = 0) σ9 τ := by
      rw [eτ, eb, ea]
      exact (((Fr.rf _ _).sI ⟨Or.inl rfl, rfl⟩).sI ⟨Or.inr (Or.inl rfl), rfl⟩).sI ⟨Or.inr (Or.inr rfl), rfl⟩
    have kt : RK τ := by
      rw [eτ, eb, ea]
      exact ((k9.sI (by show rZ 0; unfold rZ; omega)).sI (by show rI (-1); unfold rI; omega)).sI (by show rZ 0; unfold rZ; omega)
    have S9 := (S8.swept hc f9 k9 (by rw [us8, lv8]; exact sw1) (by rw [us8, lv8]; exact sw2)).fr f9t (fun f o' a q => by unfold mSA isW at a; omega) kt
    have D9' := D9.fr f9t (fun f o' a q => by unfold rBI at a; omega)
    have m9 : Fr mEc σ τ := (m8.tr (f9.mono (fun f o' q => by
      rcases q with q | q
      · exact Or.inr (Or.inr (Or.inr (Or.inl (Or.inr q))))
      · exact Or.inr (Or.inr (Or.inr (Or.inr ⟨by omega, q.2⟩)))))).tr (f9t.mono (fun f o' q => Or.inr (Or.inr (Or.inr (Or.inr ⟨by omega, q.2⟩)))))
    have f2t : Fr (fun f o' => mWr 4 f o' ∨ mRow 4 f o' ∨ mMl f o' ∨ ((f = 323 ∨ f = 202 ∨ f = 213 ∨ f = 223 ∨ f = 225) ∧ o' = 0)) σ2 τ := ((f28.mono (fun f o' q => by
      rcases q with q | q | q | q
      · exact Or.inl q
      · exact Or.inr (Or.inl q)
      · exact Or.inr (Or.inr (Or.inl q))
      · exact Or.inr (Or.inr (Or.inr ⟨by omega, q.2⟩)))).tr (f9.mono (fun f o' q => by
      rcases q with q | q
      · exact Or.inr (Or.inr (Or.inl (Or.inr q)))
      · exact Or.inr (Or.inr (Or.inr ⟨by omega, q.2⟩))))).tr (f9t.mono (fun f o' q => Or.inr (Or.inr (Or.inr ⟨by omega, q.2⟩))))
    have f3t : Fr (fun f o' => mRow 4 f o' ∨ mMl f o' ∨ ((f = 323 ∨ f = 202 ∨ f = 213 ∨ f = 223 ∨ f = 225) ∧ o' = 0)) σ3 τ := ((f38.mono (fun f o' q => by
      rcases q with q | q | q
      · exact Or.inl q
      · exact Or.inr (Or.inl q)
      · exact Or.inr (Or.inr ⟨by omega, q.2⟩))).tr (f9.mono (fun f o' q => by
      rcases q with q | q
      · exact Or.inr (Or.inl (Or.inr q))
      · exact Or.inr (Or.inr ⟨by omega, q.2⟩)))).tr (f9t.mono (fun f o' q => Or.inr (Or.inr ⟨by omega, q.2⟩)))
    have lvt : gA τ 324 0 = gA σ2 324 0 := f2t.a _ _ (fun q => by unfold mWr mRow mMl mBw mMv at q; omega)
    have oxt : gA τ 325 0 = gA σ2 325 0 := f2t.a _ _ (fun q => by unfold mWr mRow mMl mBw mMv at q; omega)
    have ust : gA τ 323 0 = gA σ9 323 0 := f9t.a _ _ (fun q => by omega)
    have tnt : gI τ 214 0 = gI σ2 214 0 := f2t.i _ _ (fun q => by unfold mWr mRow mMl mBw mMv at q; omega)
    have tpt : gI τ 215 0 = gI σ2 215 0 := f2t.i _ _ (fun q => by unfold mWr mRow mMl mBw mMv at q; omega)
    have w4t : gI τ 451 4 = gI σ2 451 4 := by
      rw [f3t.i _ _ (fun q => by unfold mRow mMl mBw mMv at q; omega)]; exact n3
    have fl4 : flu τ 4 := by
      have e1 : gI τ 451 4 = gI σ3 451 4 := f3t.i _ _ (fun q => by unfold mRow mMl mBw mMv at q; omega)
      have e2 : gI τ 452 4 = gI σ3 452 4 := f3t.i _ _ (fun q => by unfold mRow mMl mBw mMv at q; omega)
      unfold flu
      rw [e1, e2]; exact fl3
    have flall : ∀ w, isW 0 w → flu τ w := by
      intro w hw
      rcases hw with e | e | e
      · rw [e]; unfold flu; rw [m9.i _ _ (nwE _ 0 (by omega) (by omega)), m9.i _ _ (nwE _ 0 (by omega) (by omega))]; exact cf2
      · rw [e]; unfold flu; rw [m9.i _ (0 + 2) (nwE _ 2 (by omega) (by omega)), m9.i _ (0 + 2) (nwE _ 2 (by omega) (by omega))]; exact cf3
      · rw [e]; exact fl4
    obtain ⟨krE, koE⟩ := krt_fr (o := 0) m9 nkE (nrE 0)
    have nwr : ∀ f w, (w = 0 ∨ w = 0 + 2 ∨ w = 0 + 4) → 450 ≤ f → f ≤ 452 → ¬ (mRow 4 f w ∨ mMl f w ∨ ((f = 323 ∨ f = 202 ∨ f = 213 ∨ f = 223 ∨ f = 225) ∧ w = 0)) := fun f w hw a b q => by unfold mRow mMl mBw mMv at q; omega
    have d9 : ∀ m, 2 ≤ m → m ≠ 5 - lg → ¬ swp cf (gA σ2 323 0) (gA σ2 324 0) (cf.1 - 6) m → dk9 m = dk3 m := fun m m0 ne q => by
      rw [(sw2 m q).1]; unfold upF; rw [if_neg ne]; exact (g7 m m0).1
    have eet : ∀ m, 2 ≤ m → m ≠ 5 - lg → ¬ swp cf (gA σ2 323 0) (gA σ2 324 0) (cf.1 - 6) m → eE τ 0 dk9 m = eE σ3 0 dk3 m := fun m m0 ne q => by
      rw [eE_fr f3t nwr]; unfold eE; rw [d9 m m0 ne q]
    have nlo : ∀ m, m < 4 + cf.2.2 → ¬ swp cf (gA σ2 323 0) (gA σ2 324 0) (cf.1 - 6) m := fun m m1 q => by
      have := q.1.1
      omega
    have nsw : ∀ m, gA τ 323 0 m ≠ 0 → ¬ swp cf (gA σ2 323 0) (gA σ2 324 0) (cf.1 - 6) m := fun m hm q => hm (by rw [ust]; exact (sw1 m q).2)
    have hH : ∀ m, 2 ≤ m → m < cf.1 - 6 → m ≠ 5 - lg → (4 + cf.2.2 ≤ m → gA τ 323 0 m ≠ 0) → lmF dk m ≤ lmF dk9 m ∧ eE σ 0 dk m ≤ eE τ 0 dk9 m ∧ ∀ p, p < eE σ 0 dk m → db7 m p = db m p := by
      intro m m0 m1 ne hm
      have q : ¬ swp cf (gA σ2 323 0) (gA σ2 324 0) (cf.1 - 6) m := by
        by_cases z : 4 + cf.2.2 ≤ m
        · exact nsw m (hm z)
        · exact nlo m (by omega)
      have l3 := lg03.1 m (by omega) m1
      refine ⟨?_, by rw [eet m m0 ne q]; exact l3.1, fun p p1 => by rw [(g7 m m0).2]; exact l3.2.2 p p1⟩
      have e : lmF dk9 m = lmF dk3 m := by unfold lmF; rw [d9 m m0 ne q]
      rw [e]; exact l3.2.1
    -- the table
    have tnr : 4 + cf.2.2 ≤ gI σ2 214 0 ∧ gI σ2 214 0 < cf.1 - 6 := by
      rcases S2.2.2.2.2.2.2.1 with q | q
      · exact absurd q (by rw [t1]; exact t3)
      · exact q.1
    have tns : ¬ swp cf (gA σ2 323 0) (gA σ2 324 0) (cf.1 - 6) (gI σ2 214 0) := fun q => by
      have a := q.2.2
      have b := (S2.2.2.1 _ tnr.1 tnr.2).2.2.1
      have c' := S2.nn hc (m := gI σ2 214 0) (by omega)
      have := c'.2.2.2.2 rfl
      omega
    have e2t : eE σ2 0 dk2 (gI σ2 214 0) = gI σ2 452 4 := eE_at S2.1.1 (Or.inr (Or.inr rfl)) t1.symm (by omega)
    have p4 := ((S2.1.1.all.1 4 (Or.inr (Or.inr rfl))).le t1.symm (by omega)).2.1
    have tp0 : 0 ≤ gI σ2 215 0 := by
      rcases kh' with ⟨q1, q2, q3, q4, q5⟩ | ⟨q1, q2, q3, q4, q5, q6⟩
      · have w4 := (h.1.1.all.1 4 (Or.inr (Or.inr rfl))).le rfl (by
          rcases h.1.1.all.1 4 (Or.inr (Or.inr rfl)) with z | z
          · exact absurd z q1
          · omega)
        rw [t2, q3]; omega
      · rw [t2, q2]; omega
    have l23 := lg23.1 _ (show 0 ≤ gI σ2 214 0 by omega) tnr.2
    have db2t : ∀ p, p < gI σ2 452 4 → db7 (gI σ2 214 0) p = db2 (gI σ2 214 0) p := fun p p1 => by
      rw [(g7 _ (by omega)).2]; exact l23.2.2 p (by rw [e2t]; exact p1)
    have T9 : tbG tv cf (gA τ 324 0) (db7 (gI τ 214 0)) (gI τ 215 0) := by
      rw [lvt, tnt, tpt]
      exact t4.ext hc (fun i i0 i1 => db2t i (by omega))
    have srT : srl (db7 (gI τ 214 0)) (gI τ 215 0) = s + 1 := by
      rw [tnt, tpt, ← t5]
      exact srl_ext (n := tbl cf) (by omega) (fun p p0 p1 => db2t p (by omega))
    have eTt : gI τ 215 0 + tbl cf ≤ eE τ 0 dk9 (gI τ 214 0) := by
      rw [tnt, tpt, eet _ (by omega) (by omega) tns]
      have := l23.1
      rw [e2t] at this
      omega
    have amE : AM db7 L = AM db L := AM.grow h.2.1.2.2 (fun e he p p0 p1 => by
      have q := h.2.1.2.2 e he
      exact dbm _ q.1.1 q.1.2 p (by have := q.2.2.2.2.2.2; omega))
    have lgE : lgP tv dk9 db7 lg lr c (AM db7 L) := by
      rw [amE]
      refine clg.ext ?_ (fun i i0 i1 => ?_)
      · rw [d9 lg (by omega) (by omega) (nlo lg (by omega))]; exact (lo3 lg (by omega) (by omega)).1
      · rw [(g7 lg (by omega)).2]
        exact (lo3 lg (by omega) (by omega)).2 i (by have := clg.1; unfold lmF; omega)
    have MS9 : MSt tv cf dk9 db7 (s + 2) c lg (gI σ 585 (gI σ 387 0)) (gI σ 586 (gI σ 387 0)) (gI σ 587 (gI σ 387 0)) (gI σ 203 0) (gI σ2 214 0) (gI σ2 215 0) := by
      refine ⟨M7.1, fun m hm => ?_⟩
      have e : dk9 m = dk7 m := by rw [(sw2 m (nlo m (by omega))).1]; unfold upF; rw [if_neg (by omega)]
      rw [e]; exact M7.2 m hm
    obtain ⟨l, z, z1, z2, z3, z4⟩ := S9.fc (sM := s + 2) hc hL (fun x hx => by rw [krE] at hx; rw [(koE x).2.1]; exact cf1 x hx) flall (by rw [f2t.i _ _ (fun q => by unfold mWr mRow mMl mBw mMv at q; omega)]; rw [ol]; exact o1) rfl rfl (by rw [tnt]; omega) (by rw [tpt]; exact tp0) eTt T9 cl2 ⟨cl5.1, cl5.2⟩ lgE hnx
    refine hQ τ dk9 db7 S9 (by rw [show B + 402 = B + 12 + 6 + 384 by omega]; exact D9') ⟨⟨l, z, z1, z2, z3, z4 ?_⟩, ⟨fun m m0 m1 hm => ?_, srT⟩, ⟨?_, ?_, ?_, ?_, ?_⟩, ⟨krE, koE⟩, ⟨σ2, kh', ?_, ?_, oxt, w4t, tnt.trans t1⟩, ⟨fun m m0 m1 ne => ?_, ?_⟩, hH, fl4, m9, amE⟩ kt
    · have zr' : z = gI σ 387 0 := by rw [← z2]; exact m9.i _ _ (nrE 0)
      rw [(koE z).2.2.1, (koE z).2.2.2.1, (koE z).2.2.2.2, zr', tnt, tpt]
      exact MS9
    · have q := nsw m hm
      have u2 : gA σ2 323 0 m ≠ 0 := by rw [← (sw2 m q).2, ← ust]; exact hm
      have hHm := hH m (by omega) m1 (by omega) (fun _ => hm)
      by_cases z : gA σ 323 0 m ≠ 0
      · obtain ⟨b1, b2, b3⟩ := cns m m0 m1 z
        refine ⟨Int.le_trans b1 hHm.2.1, ?_, ?_⟩
        · rw [rI4_ext (h := db m) (fun i i0 i1 => hHm.2.2 i (by omega))]; exact b2
        · rw [srl_ext (h := db7 m) (g := db m) (n := 24) (by omega) (fun p p0 p1 => hHm.2.2 p (by omega))]; omega
      · rcases usd m (by omega) u2 with y | ⟨y1, y2⟩
        · exact absurd y z
        · have e : m = gI σ2 214 0 := by rw [t1]; exact y1
          have e0 : gI σ2 215 0 = 0 := by rw [t2, y2]; omega
          rw [tnt, tpt, e0] at srT T9 eTt
          rw [e]
          refine ⟨by omega, ?_, by omega⟩
          have := T9.1.2.1
          rw [show (0 : Int) + 4 = 4 by omega] at this
          rw [this]; omega
    · rw [f9t.i _ _ (fun q => by omega), f9.i _ _ (fun q => by unfold mMv at q; omega), f8.i _ _ (fun q => by unfold mMv at q; omega), f7.i _ _ (fun q => by unfold mMl mBw mMv at q; omega), s6]; omega
    · rw [eτ, gI_sIo (by decide), eb, gI_sIo (by decide), ea, gI_sI1]
    · rw [eτ, gI_sIo (by decide), eb, gI_sI1]
    · rw [eτ, gI_sI1]
    · rw [f2t.i _ _ (fun q => by unfold mWr mRow mMl mBw mMv at q; omega), ol]; exact o1
    · rw [lvt, ust]; exact fun k q => (sw1 k q).2
    · rw [lvt, ust]; exact fun k q => (sw2 k q).2
    · rw [d9 m m0 ne (nlo m m1)]; exact (lo3 m (by omega) m1).1
    · rw [(sw2 _ (nlo _ (by omega))).1]; unfold upF; rw [if_pos rfl]
