/-! room behind a commit; Store.finish -/
theorem ECo.room {tv : Nat → Int} {cf : Cf} {σ τ : St} {dk dk' : Int → Int} {db db' : Int → Int → Int} {L : List (Int × Int × Int × Int × Int × Int)} {c lg lr s f W G : Int} {NW Old : List Int} (hc : CfOK cf) (h : SA tv cf σ dk db L) (hT : SA tv cf τ dk' db' L) (hE : ECo tv cf σ τ dk dk' db db' L c lg lr s) (hr : CRm cf σ f W G 0 NW Old) :
    G ≤ emp cf (gA τ 323 0) ∧ rmy cf (gA σ 323 0) (gA σ 325 0) ≤ rmy cf (gA τ 323 0) (gA τ 325 0) ∧ (Old = [] → rmy cf (gA τ 323 0) (gA τ 325 0) ≤ emp cf (gA τ 323 0) + cst cf W + 1) ∧ (∀ k, 4 + cf.2.2 ≤ k → k < cf.1 - 6 → gA τ 325 0 k ≠ 0 → gA τ 323 0 k = 2 → k = gI τ 451 4) ∧ (∀ k, 4 + cf.2.2 ≤ k → k < cf.1 - 6 → gA τ 323 0 k = 1 → gA τ 324 0 k ≠ 0) := by
  have hP : 8 ≤ cf.2.1 ∧ cf.2.1 ≤ 32 := hc.2.1
  have hR : 0 ≤ cf.2.2 ∧ cf.2.2 ≤ 4 := hc.2.2
  have tr := tbl_r hc
  obtain ⟨⟨l, z, -, -, -, fcx⟩, -, ⟨-, -, -, -, ol⟩, ⟨krE, koE⟩, ⟨σ2, kh, sw1, sw2, oxt, w4t, tnt⟩, -⟩ := hE
  have fc := hr.fc hc (fun q => (h.rn (Or.inr (Or.inr rfl)) q).2.1.1)
  obtain ⟨⟨h1, h2, -⟩, h3, h4, ⟨h5, h6, h7⟩, h8⟩ := hr
  rw [Int.add_zero] at fc h4
  have n2 : 4 + cf.2.2 ≤ gI σ2 451 4 ∧ gI σ2 451 4 < cf.1 - 6 := by
    have := fcx.2.2.2.1.1
    rw [tnt] at this
    exact this
  have em := kh.em n2 hR.1 h.u4
  -- fetches with the table
  obtain ⟨f2, NW2, a1, a2, a3, a4, a5⟩ : ∃ (f2 : Int) (NW2 : List Int), f2 ≤ cst cf W ∧ cst cf W - f2 + G ≤ emp cf (gA σ2 323 0) ∧ (NW2.length : Int) ≤ f2 + 1 ∧ gI σ2 451 4 ∈ NW2 ∧ ∀ x, x ∈ krt σ 0 → gI σ 584 x = 0 → x ∈ Old ∨ gI σ 585 x ∈ NW2 := by
    rcases em with ⟨q1, q2, q3, q4⟩ | ⟨q1, q2, q3⟩
    · exact ⟨f, NW, fc, by rw [q1]; exact h4, h5, by rw [q2]; exact h6 q3, h7⟩
    · refine ⟨f + 1, gI σ2 451 4 :: NW, ?_, by omega, by rw [List.length_cons]; omega, List.mem_cons_self, fun x hx hf => ?_⟩
      · unfold cst
        rcases h3 with z | ⟨z1, z2⟩
        · have : 0 ≤ (W + tbl cf) / ((cf.2.1 - 2) * 128 - 248) := Int.ediv_nonneg (by omega) (by omega)
          omega
        · have p8 := h.p8 (w := 4) (Or.inr (Or.inr rfl)) z1
          have pl : (cf.2.1 - 2) * 128 - 248 ≤ gI σ 452 4 := by
            rcases q2 with y | y
            · exact absurd y z1
            · omega
          have e : f * ((cf.2.1 - 2) * 128 - 248) = (f - 1) * ((cf.2.1 - 2) * 128 - 248) + ((cf.2.1 - 2) * 128 - 248) := by
            rw [show f = (f - 1) + 1 by omega, Int.add_mul, Int.one_mul, show f - 1 + 1 - 1 = f - 1 by omega]
          have := (Int.le_ediv_iff_mul_le (a := f) (b := W + tbl cf) (c := (cf.2.1 - 2) * 128 - 248) (by omega)).mpr (by omega)
          omega
      · rcases h7 x hx hf with w | w
        · exact Or.inl w
        · exact Or.inr (List.mem_cons_of_mem _ w)
  have rm := kh.rm hR.1 h.u4
  have z0 : ∀ k, gA σ2 323 0 k = 0 → gA τ 323 0 k = 0 := fun k hk => by
    rw [sw2 k (fun q => by have := q.2.1; omega)]; exact hk
  have e1 : emp cf (gA σ2 323 0) ≤ emp cf (gA τ 323 0) := by
    have := cnt_le (p := fun k => 4 + cf.2.2 ≤ k ∧ gA σ2 323 0 k = 0) (q := fun k => 4 + cf.2.2 ≤ k ∧ gA τ 323 0 k = 0) (cf.1 - 6).toNat (fun i _ _ q => ⟨q.1, z0 i q.2⟩)
    unfold emp; omega
  have u2 : ∀ k, 4 + cf.2.2 ≤ k → k < cf.1 - 6 → gA σ2 325 0 k ≠ 0 → gA σ2 323 0 k = 2 → k = gI σ2 451 4 := by
    intro k k0 k1 a b
    rcases kh with ⟨q1, q2, q3, q4, q5⟩ | ⟨q1, q2, q3, q4, q5, q6⟩
    · rw [q2]; rw [q4] at b; rw [q5] at a; exact h8 k k0 k1 a b
    · by_cases e : k = gI σ2 451 4
      · exact e
      · rw [q5 k (by omega), if_neg e] at b
        by_cases e2 : k = gI σ 451 4
        · rw [if_pos e2] at b; omega
        · rw [if_neg e2] at b
          rw [q6] at a
          unfold upF at a
          rw [if_neg e] at a
          exact absurd (h8 k k0 k1 a b) e2
  have ut : ∀ k, 4 + cf.2.2 ≤ k → k < cf.1 - 6 → gA τ 325 0 k ≠ 0 → gA τ 323 0 k = 2 → k = gI τ 451 4 := by
    intro k k0 k1 a b
    by_cases q : swp cf (gA σ2 323 0) (gA τ 324 0) (cf.1 - 6) k
    · rw [sw1 k q] at b; omega
    · rw [sw2 k q] at b
      rw [oxt] at a
      rw [w4t]; exact u2 k k0 k1 a b
  have uw : ∀ k, 4 + cf.2.2 ≤ k → k < cf.1 - 6 → gA τ 323 0 k = 1 → gA τ 324 0 k ≠ 0 := fun k k0 k1 u1 z => by
    by_cases q : swp cf (gA σ2 323 0) (gA τ 324 0) (cf.1 - 6) k
    · have := sw1 k q; omega
    · exact q ⟨⟨k0, k1⟩, by rw [← sw2 k q]; exact u1, z⟩
  refine ⟨by omega, ?_, fun ho => ?_, ut, uw⟩
  · have := cnt_le (p := fun k => 4 + cf.2.2 ≤ k ∧ (gA σ2 323 0 k = 0 ∨ gA σ2 325 0 k ≠ 0)) (q := fun k => 4 + cf.2.2 ≤ k ∧ (gA τ 323 0 k = 0 ∨ gA τ 325 0 k ≠ 0)) (cf.1 - 6).toNat (fun i _ _ q => ⟨q.1, by
      rcases q.2 with w | w
      · exact Or.inl (z0 i w)
      · exact Or.inr (by rw [oxt]; exact w)⟩)
    rw [← rm]
    unfold rmy; omega
  · have b1 := cnt_or (p := fun k => 4 + cf.2.2 ≤ k ∧ (gA τ 323 0 k = 0 ∨ gA τ 325 0 k ≠ 0)) (q := fun k => 4 + cf.2.2 ≤ k ∧ gA τ 323 0 k = 0) (r := fun k => 4 + cf.2.2 ≤ k ∧ gA τ 323 0 k ≠ 0 ∧ gA τ 325 0 k ≠ 0) (cf.1 - 6).toNat (fun i _ _ q => by
      by_cases w : gA τ 323 0 i = 0
      · exact Or.inl ⟨q.1, w⟩
      · rcases q.2 with y | y
        · exact absurd y w
        · exact Or.inr ⟨q.1, w, y⟩)
    have b2 := cnt_list (p := fun k => 4 + cf.2.2 ≤ k ∧ gA τ 323 0 k ≠ 0 ∧ gA τ 325 0 k ≠ 0) NW2 (cf.1 - 6).toNat (fun k k0 k1 hk => ?_)
    · unfold rmy emp; omega
    · obtain ⟨x1, x2, x3⟩ := hk
      have kr : k < cf.1 - 6 := by omega
      obtain ⟨y1, y2, y3, y4, y5, y6, y7⟩ := hT.2.2.1 k x1 kr
      by_cases q2 : gA τ 323 0 k = 2
      · rw [ut k x1 kr x3 q2, w4t]; exact a4
      · have u1 : gA τ 323 0 k = 1 := by omega
        have ns : ¬ swp cf (gA σ2 323 0) (gA τ 324 0) (cf.1 - 6) k := fun q => x2 (sw1 k q)
        have lv : gA τ 324 0 k ≠ 0 := fun z => ns ⟨⟨x1, kr⟩, by rw [← sw2 k ns]; exact u1, z⟩
        have os : oS τ 0 k = 0 := by unfold oS; rw [ol]; rfl
        have l0 := y5 x3
        by_cases tq : tbS τ k = 0
        · have ks : kS τ (krt τ 0) k ≠ 0 := by omega
          obtain ⟨y, v1, v2, v3⟩ := kS_ex ks
          rw [krE] at v1
          rw [(koE y).2.1] at v2
          rw [(koE y).2.2.1] at v3
          rcases a5 y v1 v2 with w | w
          · rw [ho] at w; exact absurd w List.not_mem_nil
          · rw [← v3]; exact w
        · have : k = gI τ 214 0 := by
            apply Classical.byContradiction
            intro z
            exact tq (by unfold tbS; rw [if_neg z])
          rw [this, tnt]; exact a4
def mCf (f : Nat) (o' : Int) : Prop := mCm f o' ∨ mEc f o'
/-- behind a commit -/
def CFo (tv : Nat → Int) (cf : Cf) (σ τ : St) (dk dk' : Int → Int) (db db' : Int → Int → Int) (L : List (Int × Int × Int × Int × Int × Int)) (c lg lr s n : Int) : Prop :=
  (∃ (l : Nat) (z : Int), krt τ 0 = kl τ l z ∧ gI τ 387 0 = z ∧ ls τ l z = L ∧ FC tv cf dk' db' τ l z c lg lr (gI τ 202 0) (gI σ 203 0) (gI τ 214 0) (gI τ 215 0)) ∧ (NSb cf τ dk' db' (gI τ 202 0) ∧ KSr τ db' (gI τ 202 0) ∧ srl (db' (gI τ 214 0)) (gI τ 215 0) ≤ gI τ 202 0) ∧ ((s ≤ gI τ 202 0 ∧ gI τ 202 0 ≤ s + n + 2) ∧ gI τ 213 0 = 0 ∧ gI τ 223 0 = -1 ∧ gI τ 225 0 = 0 ∧ gI τ 390 0 = 0 ∧ ∀ x, x ∈ krt τ 0 → gI τ 584 x = 0) ∧ (krt τ 0 = krt σ 0 ∧ ∀ x, KE σ τ x) ∧ ((∀ m, 2 ≤ m → m < 4 + cf.2.2 → m ≠ 5 - lg → dk' m = dk m) ∧ dk' (5 - lg) = -1) ∧ (∀ m, 2 ≤ m → m < cf.1 - 6 → m ≠ 5 - lg → (4 + cf.2.2 ≤ m → gA τ 323 0 m ≠ 0) → lmF dk m ≤ lmF dk' m ∧ eE σ 0 dk m ≤ eE τ 0 dk' m ∧ ∀ p, p < eE σ 0 dk m → db' m p = db m p) ∧ (∀ w, isW 0 w → flu τ w) ∧ Fr mCf σ τ ∧ AM db' L = AM db L
/-- room behind a commit -/
def CRo (cf : Cf) (σ τ : St) (G F : Int) (Old : List Int) : Prop := G ≤ emp cf (gA τ 323 0) ∧ rmy cf (gA σ 323 0) (gA σ 325 0) ≤ rmy cf (gA τ 323 0) (gA τ 325 0) ∧ (Old = [] → rmy cf (gA τ 323 0) (gA τ 325 0) ≤ emp cf (gA τ 323 0) + cst cf F + 1) ∧ (∀ k, 4 + cf.2.2 ≤ k → k < cf.1 - 6 → gA τ 325 0 k ≠ 0 → gA τ 323 0 k = 2 → k = gI τ 451 4) ∧ ∀ k, 4 + cf.2.2 ≤ k → k < cf.1 - 6 → gA τ 323 0 k = 1 → gA τ 324 0 k ≠ 0
theorem ECo.cf {tv : Nat → Int} {cf : Cf} {σ τ : St} {dk dk' : Int → Int} {db db' : Int → Int → Int} {L : List (Int × Int × Int × Int × Int × Int)} {c lg lr s : Int} (h : SA tv cf σ dk db L) (hE : ECo tv cf σ τ dk dk' db db' L c lg lr s) (hT : SA tv cf τ dk' db' L) (hf : ∀ x, x ∈ krt σ 0 → gI σ 584 x = 0) (hw : flu σ 0 ∧ flu σ 2) (hk : KSr σ db s) (hc : CfOK cf) (hcl : lg = 2 ∨ lg = 3) : CFo tv cf σ τ dk dk' db db' L c lg lr s 0 := by
  have hR : 0 ≤ cf.2.2 ∧ cf.2.2 ≤ 4 := hc.2.2
  obtain ⟨e1, ⟨e2, e3⟩, ⟨e4, e5, e6, e7, e8⟩, ⟨e9, e10⟩, e11, e12, e13, e14, e15, e16⟩ := hE
  rw [← e4] at e1 e2
  have nwE : ∀ f w, (f = 451 ∨ f = 452) → (w = 0 ∨ w = 2) → ¬ mEc f w := fun f w hf hw q => by unfold mEc mTb mWt mMd mRow mRm mWc mSf mWr mMl mBw mMv at q; omega
  have ft : ∀ x, x ∈ krt τ 0 → gI τ 584 x = 0 := fun x hx => by rw [(e10 x).2.1]; rw [e9] at hx; exact hf x hx
  refine ⟨e1, ⟨e2, fun x hx hfx => ?_, by omega⟩, ⟨by omega, e5, e6, e7, e8, ft⟩, ⟨e9, fun x => (e10 x).1⟩, e12, e13, fun w hw' => ?_, e15.mono (fun f o' q => Or.inr q), e16⟩
  · have hx' : x ∈ krt σ 0 := by rw [← e9]; exact hx
    obtain ⟨b1, b2⟩ := h.2.2.2.2.1 x hx' (hf x hx')
    have sz := b1.sz (krt_cnt h.2.1.1.1 x hx')
    have r := b1.2.2.1
    rw [(e10 x).2.2.1, (e10 x).2.2.2.1]
    have us : gA τ 323 0 (gI σ 585 x) ≠ 0 := fun z => by
      have t := hT.2.2.2.2.1 x hx hfx
      have p := kS_pos (σ := τ) (K := krt τ 0) (fun y hy fy => ((hT.2.2.2.2.1 y hy fy).1.sz (krt_cnt hT.2.1.1.1 y hy)).1) x hx hfx
      rw [(e10 x).2.2.1] at p
      have nm := hT.2.2.1 _ r.1 r.2
      have b := (nm.2.1 z).2.1
      have c' := nm.2.2.1
      have nn : 0 ≤ lS L (gI σ 585 x) ∧ 0 ≤ oS τ 0 (gI σ 585 x) ∧ 0 ≤ tbS τ (gI σ 585 x) := by
        have q := hT.nn hc (m := gI σ 585 x) (by omega)
        exact ⟨q.1, q.2.2.1, q.2.2.2.1⟩
      omega
    have q := e13 (gI σ 585 x) (by omega) r.2 (by omega) (fun _ => us)
    rw [srl_ext (g := db (gI σ 585 x)) (n := gI σ 587 x) (by omega) (fun p p0 p1 => q.2.2 p (by have := b1.2.2.2.2.1; omega))]
    have := hk x hx' (hf x hx')
    omega
  · rcases hw' with e | e | e
    · rw [e]; unfold flu; rw [e15.i _ _ (nwE _ 0 (by omega) (by omega)), e15.i _ _ (nwE _ 0 (by omega) (by omega))]; exact hw.1
    · rw [e]; unfold flu; rw [e15.i _ (0 + 2) (nwE _ 2 (by omega) (by omega)), e15.i _ (0 + 2) (nwE _ 2 (by omega) (by omega))]; exact hw.2
    · rw [e]; exact e14
theorem CFo.pre {tv : Nat → Int} {cf : Cf} {ρ σ τ : St} {dk0 dk dk' : Int → Int} {db0 db db' : Int → Int → Int} {L : List (Int × Int × Int × Int × Int × Int)} {c lg lr s0 s n : Int} (h : CFo tv cf σ τ dk dk' db db' L c lg lr s n) (hg : LGo cf ρ σ dk0 dk db0 db) (hk : krt σ 0 = krt ρ 0 ∧ ∀ x, KE ρ σ x) (fr : Fr mCf ρ σ) (hs : s0 ≤ s) (am : AM db L = AM db0 L) (h0 : 0 ≤ cf.2.2) (hcl : lg = 2 ∨ lg = 3) : CFo tv cf ρ τ dk0 dk' db0 db' L c lg lr s0 (s + n - s0) := by
  obtain ⟨e1, e2, ⟨e3, e4, e5⟩, ⟨e9, e10⟩, ⟨e11, e12⟩, e13, e14, e15, e16⟩ := h
  have nx : gI σ 203 0 = gI ρ 203 0 := fr.i _ _ (fun q => by unfold mCf mCm mEc mTb mWt mMd mRow mRm mWc mSf mWr mMl mBw mMv at q; omega)
  rw [nx] at e1
  refine ⟨e1, e2, ⟨by omega, e4, e5⟩, ⟨e9.trans hk.1, fun x => (hk.2 x).tr (e10 x)⟩, ⟨fun m m0 m1 ne => (e11 m m0 m1 ne).trans (hg.2 m (by omega) m1), e12⟩, fun m m0 m1 ne hu => ?_, e14, fr.tr e15, e16.trans am⟩
  obtain ⟨a1, a2, a3⟩ := e13 m m0 m1 ne hu
  obtain ⟨b1, b2, b3⟩ := hg.1 m (by omega) m1
  exact ⟨by omega, by omega, fun p p1 => (a3 p (by omega)).trans (b3 p p1)⟩
theorem sp_finish {tv : Nat → Int} {cf : Cf} {σ : St} {dk : Int → Int} {db : Int → Int → Int} {B c lg lr s c0 b0 f W G : Int} {r : RT} {L : List (Int × Int × Int × Int × Int × Int)} {R NW Old : List Int} {Q : St → Prop} (hc : CfOK cf) (h : SA tv cf σ dk db L) (hD : DJ tv cf σ 0 dk db (SpC cf c0 b0 r) B) (hB : B + 402 < 1073741000) (hc0 : c0 ≤ c) (hb0 : b0 ≤ lr) (hG : 0 ≤ G) (hL : L.length ≤ 880) (hs : gI σ 202 0 = s) (hr : 0 ≤ s ∧ s < 3000000000000000000) (hnx : 0 ≤ gI σ 203 0 ∧ gI σ 203 0 < 1073741824) (hcm : gI σ 213 0 ≠ 0) (hI : CI tv cf σ dk db L c lg lr s f W G R NW Old)
    (hQ : ∀ τ dk' db', SA tv cf τ dk' db' L → DJ tv cf τ 0 dk' db' (SpC cf c lr r) (B + 402) → CFo tv cf σ τ dk dk' db db' L c lg lr s R.length → CRo cf σ τ G (W + fS σ R) Old → RK τ → Q τ) : wp_Store_finish cf tv 0 Q σ := by
  have hR : 0 ≤ cf.2.2 ∧ cf.2.2 ≤ 4 := hc.2.2
  have hlg : lg = 2 ∨ lg = 3 := hI.2.1.2.1.2.1
  have lenR : (R.length : Int) ≤ 320 := by
    obtain ⟨⟨-, -, D, -, -, l7, l8⟩, -⟩ := hI
    omega
  unfold wp_Store_finish
  refine lQ0_rule (fun τ => (gI τ 213 0 ≠ 0 ∧ ∃ dk1 db1 s1 f1 W1 R1 NW1, SA tv cf τ dk1 db1 L ∧ DJ tv cf τ 0 dk1 db1 (SpC cf c0 b0 r) B ∧ CI tv cf τ dk1 db1 L c lg lr s1 f1 W1 G R1 NW1 Old ∧ gI τ 202 0 = s1 ∧ s ≤ s1 ∧ s1 + R1.length = s + R.length ∧ W1 + fS τ R1 = W + fS σ R ∧ rmy cf (gA τ 323 0) (gA τ 325 0) = rmy cf (gA σ 323 0) (gA σ 325 0) ∧ (krt τ 0 = krt σ 0 ∧ ∀ x, KE σ τ x) ∧ LGo cf σ τ dk dk1 db db1 ∧ AM db1 L = AM db L ∧ Fr mCf σ τ) ∨ (gI τ 213 0 = 0 ∧ RK τ ∧ ∃ dk' db', SA tv cf τ dk' db' L ∧ DJ tv cf τ 0 dk' db' (SpC cf c lr r) (B + 402) ∧ CFo tv cf σ τ dk dk' db db' L c lg lr s R.length ∧ CRo cf σ τ G (W + fS σ R) Old)) (fun τ => if gI τ 213 0 = 0 then 0 else (gI τ 221 0 - gI τ 222 0).toNat + 1) ?_ σ (Or.inl ⟨hcm, dk, db, s, f, W, R, NW, h, hD, hI, hs, Int.le_refl _, rfl, rfl, rfl, ⟨rfl, fun x => ⟨rfl, rfl, fun _ => rfl⟩⟩, LGo.fr (Fr.rf (fun _ _ => False) σ) (fun _ _ _ _ _ q => q), rfl, Fr.rf _ _⟩)
  intro K τ hJ hK
  unfold wp_Store_finish_L0
  rcases hJ with ⟨c1, dk1, db1, s1, f1, W1, R1, NW1, S1, D1, I1, s1e, s1a, s1b, w1, rm1, kk1, lg1, am1, fr1⟩ | ⟨c1, k1, dk1, db1, S1, D1, F1, R1⟩
  · refine ⟨fun q => absurd q c1, fun _ => ?_⟩
    have nx1 : gI τ 203 0 = gI σ 203 0 := fr1.i _ _ (fun q => by unfold mCf mCm mEc mTb mWt mMd mRow mRm mWc mSf mWr mMl mBw mMv at q; omega)
    have dn : gI τ 221 0 - gI τ 222 0 = R1.length := by
      obtain ⟨⟨-, -, D, -, l6, l7, l8⟩, -⟩ := I1
      omega
    refine sp_commitStep hc S1 D1 hB hc0 hb0 hG hL s1e ⟨by omega, by omega⟩ (by rw [nx1]; exact hnx) I1 (fun υ dk2 db2 x R2 f2 NW2 e S2 D2 I2 fs2 s2 rm2 kk2 lg2 _ fr2 k2 _ => ?_) (fun e υ dk2 db2 S2 D2 E2 k2 _ => ?_)
    · have cu : gI υ 213 0 = gI τ 213 0 := fr2.i _ _ (fun q => by unfold mCm mMd mRow mRm mWc mSf mWr mBw mMv at q; omega)
      have dn2 : gI υ 221 0 - gI υ 222 0 = R2.length := by
        obtain ⟨⟨-, -, D, -, l6, l7, l8⟩, -⟩ := I2
        omega
      have le : (R1.length : Int) = R2.length + 1 := by rw [e, List.length_cons]; omega
      have am2 : AM db2 L = AM db1 L := AM.grow S1.2.1.2.2 (fun e he p p0 p1 => by
        have q := S1.2.1.2.2 e he
        exact (lg2.1 _ (by omega) q.1.2).2.2 p (by have := q.2.2.2.2.2.2; omega))
      refine hK υ (Or.inl ⟨by rw [cu]; exact c1, dk2, db2, s1 + 1, f2, _, R2, NW2, S2, D2, I2, s2, by omega, by omega, by omega, rm2.trans rm1, ⟨kk2.1.trans kk1.1, fun x => (kk1.2 x).tr (kk2.2 x)⟩, lg1.tr lg2, am2.trans am1, fr1.tr (fr2.mono (fun f o' q => Or.inl q))⟩) ?_
      rw [if_neg (by rw [cu]; exact c1), if_neg c1]
      omega
    · have e0 := E2.2.2.1.2.1
      have ro := E2.room hc S1 S2 (f := f1) (W := W1) (G := G) (NW := NW1) (Old := Old) (by
        have := I1.2.2.1
        rw [e] at this
        exact this)
      have fS0 : fS τ R1 = 0 := by rw [e]; rfl
      have ff : ∀ x, x ∈ krt τ 0 → gI τ 584 x = 0 := fun x hx => by
        apply Classical.byContradiction
        intro z
        have := (I1.1.1.2.1 x).mpr ⟨hx, z⟩
        rw [e] at this
        exact absurd this List.not_mem_nil
      have cfo := (E2.cf S1 S2 ff I1.2.1.1 I1.2.2.2 hc hlg).pre lg1 kk1 fr1 s1a am1 hR.1 hlg
      have l0 : R1.length = 0 := by rw [e]; rfl
      rw [show s1 + 0 - s = R.length by omega] at cfo
      refine hK υ (Or.inr ⟨e0, k2, dk2, db2, S2, D2, cfo, ⟨ro.1, by rw [← rm1]; exact ro.2.1, fun q => ?_, ro.2.2.2⟩⟩) ?_
      · have := ro.2.2.1 q
        rw [show W + fS σ R = W1 by omega]
        exact this
      · rw [if_pos e0, if_neg c1]
        omega
  · refine ⟨fun _ => hQ τ dk1 db1 S1 D1 F1 R1 k1, fun q => absurd c1 q⟩
