/-! Store.writeKnot -/
def mWk (x : Int) (f : Nat) (o' : Int) : Prop := mMd 0 f o' ∨ mRm 0 4 f o' ∨ mWr 4 f o' ∨ mOw x f o'
/-- number and place of the head of knots: as before, or a new one -/
def KHo (cf : Cf) (σ τ : St) (sz : Int) : Prop := (gI σ 451 4 ≠ -1 ∧ gI τ 451 4 = gI σ 451 4 ∧ gI τ 452 4 = gI σ 452 4 + sz ∧ gA τ 323 0 = gA σ 323 0 ∧ gA τ 325 0 = gA σ 325 0) ∨ ((gI σ 451 4 = -1 ∨ (cf.2.1 - 2) * 128 < gI σ 452 4 + sz) ∧ gI τ 452 4 = sz ∧ gA σ 323 0 (gI τ 451 4) = 0 ∧ gI τ 451 4 ≠ gI σ 451 4 ∧ (∀ m, 0 ≤ m → gA τ 323 0 m = if m = gI τ 451 4 then 2 else if m = gI σ 451 4 then 1 else gA σ 323 0 m) ∧ gA τ 325 0 = upF (gA σ 325 0) (gI τ 451 4) 1)
/-- what was there stays, numbers become longer -/
def LGo (cf : Cf) (σ τ : St) (dk dk' : Int → Int) (db db' : Int → Int → Int) : Prop := (∀ m, 0 ≤ m → m < cf.1 - 6 → eE σ 0 dk m ≤ eE τ 0 dk' m ∧ lmF dk m ≤ lmF dk' m ∧ ∀ p, p < eE σ 0 dk m → db' m p = db m p) ∧ ∀ m, 0 ≤ m → m < 4 + cf.2.2 → dk' m = dk m
theorem LGo.tr {cf : Cf} {a b c : St} {d0 d1 d2 : Int → Int} {b0 b1 b2 : Int → Int → Int} (h : LGo cf a b d0 d1 b0 b1) (k : LGo cf b c d1 d2 b1 b2) : LGo cf a c d0 d2 b0 b2 := by
  refine ⟨fun m m0 m1 => ?_, fun m m0 m1 => (k.2 m m0 m1).trans (h.2 m m0 m1)⟩
  obtain ⟨h1, h2, h3⟩ := h.1 m m0 m1
  obtain ⟨k1, k2, k3⟩ := k.1 m m0 m1
  exact ⟨by omega, by omega, fun p p1 => (k3 p (by omega)).trans (h3 p p1)⟩
theorem LGo.fr {cf : Cf} {σ τ : St} {dk : Int → Int} {db : Int → Int → Int} {M : Nat → Int → Prop} (f : Fr M σ τ) (n : ∀ f w, (w = 0 ∨ w = 0 + 2 ∨ w = 0 + 4) → 450 ≤ f → f ≤ 452 → ¬ M f w) : LGo cf σ τ dk dk db db := ⟨fun m _ _ => ⟨by rw [eE_fr f n]; omega, Int.le_refl _, fun _ _ => rfl⟩, fun _ _ _ => rfl⟩
theorem NEo.lg {cf : Cf} {σ τ : St} {w n k : Int} {dk dk' : Int → Int} {db db' : Int → Int → Int} (hc : CfOK cf) (N : NEo cf σ τ 0 w dk dk' db db' n k) (hk : dk k = -1) (hnh : ∀ v, isW 0 v → gI σ 451 v ≠ k) (hW : WW cf σ 0 dk db) (hw : isW 0 w) (hn : gI σ 451 w = n) (hd : ∀ n, 0 ≤ n → n < cf.1 - 6 → -1 ≤ dk n ∧ dk n ≤ cf.2.1 - 2) : LGo cf σ τ dk dk' db db' := by
  have hR : 0 ≤ cf.2.2 ∧ cf.2.2 ≤ 4 := hc.2.2
  obtain ⟨k1, k2, k3, k4, k5, k6, k7, k8, k9, k10, k11, k12, k13, k14⟩ := N
  have wn : n = -1 ∨ 4 + cf.2.2 ≤ n := by
    rcases hW.all.1 w hw with z | z
    · rw [hn] at z; exact Or.inl z
    · rw [hn] at z; exact Or.inr z.1.1
  refine ⟨fun m m0 m1 => ⟨?_, ?_, fun p p1 => k13 m p m0 m1 p1⟩, fun m m0 m1 => k9 m (by omega)⟩
  · by_cases e : m = k
    · rw [e, k12, eE_no hnh]; unfold lmF; omega
    · by_cases e2 : m = n
      · obtain ⟨y1, y2, y3, y4⟩ := k14 (by omega)
        rw [e2, y1, y2]; omega
      · rw [k11 m m0 e2 e]; omega
  · by_cases e2 : m = n
    · obtain ⟨y1, y2, y3, y4⟩ := k14 (by omega)
      have wl := (hW.all.1 w hw).le hn (by omega)
      rw [e2, y3]; unfold lmF; omega
    · unfold lmF; rw [k9 m e2]; omega
theorem GRo.lg {cf : Cf} {σ τ : St} {n : Int} {dk dk' : Int → Int} {db db' : Int → Int → Int} (G : GRo cf σ τ 0 dk dk' db db' n) (hn : 4 + cf.2.2 ≤ n) : LGo cf σ τ dk dk' db db' := by
  refine ⟨fun m m0 m1 => ⟨?_, ?_, fun p p1 => G.2.2 m p m0 m1 p1⟩, fun m m0 m1 => (G.1 m (by omega)).1⟩
  · by_cases e : m = n
    · rw [e]; exact G.2.1.2
    · rw [(G.1 m e).2 m0]; omega
  · by_cases e : m = n
    · rw [e]; have := G.2.1.1; unfold lmF; omega
    · unfold lmF; rw [(G.1 m e).1]; omega
theorem sp_wknot {tv : Nat → Int} {cf : Cf} {σ : St} {dk : Int → Int} {db : Int → Int → Int} {Sp : Int → Int → (Int → Int → Int) → Prop} {B x s : Int} {L : List (Int × Int × Int × Int × Int × Int)} {Q : St → Prop} (hc : CfOK cf) (h : SA tv cf σ dk db L) (hD : DJ tv cf σ 0 dk db Sp B) (hx : x ∈ krt σ 0) (hf : gI σ 584 x ≠ 0) (hch : ∀ k, 0 ≤ k → k < gI σ 577 x → be σ x k < 0 ∨ gI σ 584 (be σ x k) = 0) (hE : (gI σ 451 4 = -1 ∨ (cf.2.1 - 2) * 128 < gI σ 452 4 + szK (gI σ 577 x)) → 1 ≤ emp cf (gA σ 323 0)) (hs : gI σ 202 0 = s) (hr : 0 ≤ s ∧ s < 4611686018427387904) (hol : gI σ 390 0 + nfr σ (krt σ 0) + 1 ≤ 640)
    (hQ : ∀ τ dk' db', SA tv cf τ dk' db' L → DJ tv cf τ 0 dk' db' Sp B → gI τ 202 0 = s + 1 → krt τ 0 = krt σ 0 → (∀ y, KE σ τ y) → gI τ 584 x = 0 → (∀ y, y ≠ x → OE σ τ y) → srl (db' (gI τ 585 x)) (gI τ 586 x) = s + 1 → (gI τ 585 x = gI τ 451 4 ∧ gI τ 586 x + szK (gI σ 577 x) = gI τ 452 4 ∧ gI τ 587 x = szK (gI σ 577 x) ∧ ∀ m, m ≠ gI σ 451 4 → m ≠ gI τ 451 4 → dk' m = dk m) → KHo cf σ τ (szK (gI σ 577 x)) → LGo cf σ τ dk dk' db db' → Fr (mWk x) σ τ → Q τ) : wp_Store_writeKnot cf tv 0 x Q σ := by
  have hR : 0 ≤ cf.2.2 ∧ cf.2.2 ≤ 4 := hc.2.2
  have hP : 8 ≤ cf.2.1 ∧ cf.2.1 ≤ 32 := hc.2.1
  have hB : 24 ≤ cf.1 ∧ cf.1 ≤ 64 := hc.1
  have hx1 := h.2.1.1.1
  have cx := krt_cnt hx1 x hx
  have lvx : 0 ≤ gI σ 576 x ∧ 0 ≤ x := by
    obtain ⟨l, z, a1, a2, -⟩ := hx1.krt
    rw [a1] at hx
    obtain ⟨l', mn', lo', hi', b1, b2⟩ := a2.sub hx
    have := b2.cnt
    omega
  generalize hsz : szK (gI σ 577 x) = sz at hQ
  have szr : sz = (32 + 28 * gI σ 577 x + 7) / 8 * 8 := by rw [← hsz]; rfl
  have isw : isW 0 4 := Or.inr (Or.inr rfl)
  refine sp_wkrow (Or.inl rfl) h.1.2 lvx.2 cx hs hr (fun τ1 g1 g2 g3 g4 f1 k1 => ?_)
  rw [hsz] at g3
  have m1 : ∀ f o', mSA f o' → ¬ mMd 0 f o' := fun f o' a q => by unfold mSA isW at a; unfold mMd mRow at q; omega
  have S1 := h.fr f1 m1 k1
  have D1 := hD.fr f1 (fun f o' a q => by unfold rBI at a; unfold mMd mRow at q; omega)
  have nk1 : ∀ f y, 576 ≤ f → f ≤ 587 → ¬ mMd 0 f y := fun f y a b q => by unfold mMd mRow at q; omega
  obtain ⟨kr1, ko1⟩ := krt_fr (o := 0) f1 nk1 (fun q => by unfold mMd mRow at q; omega)
  have wf1 : ∀ f w, (w = 0 ∨ w = 0 + 2 ∨ w = 0 + 4) → 450 ≤ f → f ≤ 452 → ¬ mMd 0 f w := fun f w _ a b q => by unfold mMd mRow at q; omega
  have w41 : ∀ f, (f = 451 ∨ f = 452) → gI τ1 f 4 = gI σ f 4 := fun f hf => f1.i _ _ (fun q => by unfold mMd mRow at q; omega)
  have u1 : gA τ1 323 0 = gA σ 323 0 := f1.a _ _ (fun q => by unfold mMd mRow at q; omega)
  have o1 : gA τ1 325 0 = gA σ 325 0 := f1.a _ _ (fun q => by unfold mMd mRow at q; omega)
  have on1 : ∀ k, oN τ1 x k = oN σ x k ∧ oP τ1 x k = oP σ x k ∧ oZ τ1 x k = oZ σ x k := fun k => by
    unfold oN oP oZ
    rw [(ko1 x).1.b k, (ko1 (be σ x k)).2.2.1, (ko1 (be σ x k)).2.2.2.1, (ko1 (be σ x k)).2.2.2.2, f1.a 580 x (nk1 _ _ (by decide) (by decide)), f1.a 581 x (nk1 _ _ (by decide) (by decide)), f1.a 582 x (nk1 _ _ (by decide) (by decide))]
    exact ⟨rfl, rfl, rfl⟩
  generalize hg : gA τ1 512 (0 + 2) = g at g1 g2
  -- from a head that takes it on
  have rest : ∀ τ2 dk2 db2 n2 p2, SA tv cf τ2 dk2 db2 L → DJ tv cf τ2 0 dk2 db2 Sp B → gI τ2 451 4 = n2 → n2 ≠ -1 → gI τ2 452 4 = p2 → p2 + sz ≤ (cf.2.1 - 2) * 128 → LGo cf σ τ2 dk dk2 db db2 → (∀ m, m ≠ gI σ 451 4 → dk2 m = dk m) → ((gI σ 451 4 ≠ -1 ∧ n2 = gI σ 451 4 ∧ p2 = gI σ 452 4 ∧ gA τ2 323 0 = gA σ 323 0 ∧ gA τ2 325 0 = gA σ 325 0) ∨ ((gI σ 451 4 = -1 ∨ (cf.2.1 - 2) * 128 < gI σ 452 4 + sz) ∧ p2 = 0 ∧ gA σ 323 0 n2 = 0 ∧ n2 ≠ gI σ 451 4 ∧ (∀ m, 0 ≤ m → gA τ2 323 0 m = if m = n2 then 2 else if m = gI σ 451 4 then 1 else gA σ 323 0 m) ∧ gA τ2 325 0 = upF (gA σ 325 0) n2 1)) → Fr (fun f o' => mMd 0 f o' ∨ mRm 0 4 f o') σ τ2 → Fr (mRm 0 4) τ1 τ2 → wp_Writer_put cf tv (0 + 4) 512 (0 + 2) 0 (gI τ2 514 (0 + 2)) (fun r_145 σ_146 => rI r_145 → RK σ_146 → ∀ σ_147, σ_147 = sI σ_146 586 x r_145 → ∀ σ_148, σ_148 = sI σ_147 585 x (gI σ_147 451 (0 + 4)) → ∀ σ_149, σ_149 = sI σ_148 587 x (gI σ_148 514 (0 + 2)) → ∀ σ_150, σ_150 = sI σ_149 584 x 0 → ((0 : Int) ≤ gI σ_150 585 x ∧ gI σ_150 585 x < (cf.1 - 6)) ∧ ((0 : Int) ≤ gI σ_150 585 x ∧ gI σ_150 585 x < (cf.1 - 6)) ∧ ∀ σ_151, σ_151 = sA σ_150 324 0 (gI σ_150 585 x) (w32 ((gA σ_150 324 0 (gI σ_150 585 x)) + (gI σ_150 587 x))) → Q σ_151) τ2 := by
    intro τ2 dk2 db2 n2 p2 S2 D2 hn2 n21 hp2 hS2 LG2 dk2e cs F2 F12
    have nk2 : ∀ f y, 576 ≤ f → f ≤ 587 → ¬ mRm 0 4 f y := fun f y a b q => by unfold mRm mWc mWr mBw mSf mMv at q; omega
    obtain ⟨kr2, ko2⟩ := krt_fr (o := 0) F12 nk2 (fun q => by unfold mRm mWc mWr mBw mSf mMv at q; omega)
    have hg2 : gA τ2 512 (0 + 2) = g := by rw [F12.a _ _ (fun q => by unfold mRm mWc mWr mBw mSf mMv at q; omega)]; exact hg
    have he2 : gI τ2 514 (0 + 2) = sz := by rw [F12.i _ _ (fun q => by unfold mRm mWc mWr mBw mSf mMv at q; omega)]; exact g3
    have s2 : gI τ2 202 0 = s + 1 := by rw [F12.i _ _ (fun q => by unfold mRm mWc mWr mBw mSf mMv at q; omega)]; exact g4
    have rn2 : (4 + cf.2.2 ≤ n2 ∧ n2 < cf.1 - 6) ∧ 0 ≤ p2 := by
      rcases S2.1.1.all.1 4 isw with z | z
      · rw [hn2] at z; exact absurd z n21
      · rw [hn2, hp2] at z; exact ⟨z.1, z.2.1.1⟩
    rw [he2]
    have r2 : rowL (0 + 2) = 320 := by unfold rowL; rw [if_pos (by omega)]
    refine sp_put3 (w := 4) (f := 512) (q := 0 + 2) (a := 0) (len := sz) hc (Or.inl rfl) S2.1.2 isw D2 S2.1.1 hn2 n21 hp2 (by omega) hS2 (by decide) (by omega) (by rw [aln_row, r2]; omega) (by omega) (fun q => by unfold mWr mBw at q; omega) (fun τ3 dk3 D3 W3 G3 hn3 hp3 f3 k3 _ _ => ?_)
    rw [hg2] at D3 W3 G3
    generalize hdb3 : putB db2 n2 p2 sz (fun i => g (0 + i)) = db3 at D3 W3 G3
    have c3 : ∀ i, 0 ≤ i → i < sz → db3 n2 (p2 + i) = g (0 + i) := fun i i0 i1 => by
      rw [← hdb3]; unfold putB
      rw [if_pos ⟨rfl, by omega, by omega⟩]
      congr 1
      omega
    have ep2 : eE τ2 0 dk2 n2 = p2 := by rw [eE_at S2.1.1 isw hn2 n21]; exact hp2
    have ep3 : eE τ3 0 dk3 n2 = p2 + sz := by rw [eE_at W3 isw hn3 n21]; exact hp3
    have kg3 : knG tv σ x (db3 n2) p2 := g1.sh cx.1 (fun i i0 i1 => by rw [hsz] at i1; exact (c3 i i0 i1).symm)
    have ch3 : chn tv (db3 n2) [sz] (eE τ2 0 dk2 n2) (eE τ3 0 dk3 n2) := by
      rw [ep2, ep3]
      show if sz = 0 then _ else _
      rw [if_neg (by omega)]
      have w := kg3.1
      rw [hsz] at w
      exact ⟨⟨w, ⟨by omega, by omega⟩, fun _ => by rw [kg3.2.2.1]; exact lvx.1⟩, rfl⟩
    have S3 := S2.grow hc isw hn2 n21 hn3 W3 G3 f3 k3 ch3
    have nk3 : ∀ f y, 576 ≤ f → f ≤ 587 → ¬ mWr 4 f y := fun f y a b q => by unfold mWr mBw at q; omega
    obtain ⟨kr3, ko3⟩ := krt_fr (o := 0) f3 nk3 (fun q => by unfold mWr mBw at q; omega)
    have KEs : ∀ y, KE σ τ3 y ∧ OE σ τ3 y := fun y => ⟨((ko1 y).1.tr (ko2 y).1).tr (ko3 y).1, ((ko1 y).2.tr (ko2 y).2).tr (ko3 y).2⟩
    have krs : krt τ3 0 = krt σ 0 := by rw [kr3, kr2, kr1]
    have kg3' : knG tv τ3 x (db3 n2) p2 := by
      refine kg3.of (KEs x).1.2.1 (KEs x).1.1 (fun k k0 k1 => ?_)
      have een := (KEs x).1.2.2 k
      refine ⟨congrArg (fun t : Int × Int × Int × Int × Int × Int => t.1) een, congrArg (fun t : Int × Int × Int × Int × Int × Int => t.2.1) een, ?_, ?_, ?_⟩
      · unfold oN; rw [(KEs x).1.b k, (KEs (be σ x k)).2.2.1]
        show (if be σ x k < 0 then (en τ3 x k).2.2.1 else _) = if be σ x k < 0 then (en σ x k).2.2.1 else _
        rw [(KEs x).1.2.2 k]
      · unfold oP; rw [(KEs x).1.b k, (KEs (be σ x k)).2.2.2.1]
        show (if be σ x k < 0 then (en τ3 x k).2.2.2.1 else _) = if be σ x k < 0 then (en σ x k).2.2.2.1 else _
        rw [(KEs x).1.2.2 k]
      · unfold oZ; rw [(KEs x).1.b k, (KEs (be σ x k)).2.2.2.2]
        show (if be σ x k < 0 then (en τ3 x k).2.2.2.2.1 else _) = if be σ x k < 0 then (en σ x k).2.2.2.2.1 else _
        rw [(KEs x).1.2.2 k]
    intro σ4 e4 σ5 e5 σ6 e6 σ7 e7
    have nf : ∀ {a b : Nat} {x y : Int}, a ≠ b → ¬ (a = b ∧ x = y) := fun h q => h q.1
    have n4 : gI σ4 451 (0 + 4) = n2 := by rw [e4, gI_sI, if_neg (nf (by decide))]; exact hn3
    rw [n4] at e5
    have e5' : gI σ5 514 (0 + 2) = sz := by
      rw [e5, gI_sI, if_neg (nf (by decide)), e4, gI_sI, if_neg (nf (by decide)), f3.i _ _ (fun q => by unfold mWr mBw at q; omega)]; exact he2
    rw [e5'] at e6
    have o7 : gI σ7 585 x = n2 := by rw [e7, gI_sI, if_neg (nf (by decide)), e6, gI_sI, if_neg (nf (by decide)), e5, gI_sI1]
    have p7 : gI σ7 586 x = p2 := by rw [e7, gI_sI, if_neg (nf (by decide)), e6, gI_sI, if_neg (nf (by decide)), e5, gI_sI, if_neg (nf (by decide)), e4, gI_sI1]
    have z7 : gI σ7 587 x = sz := by rw [e7, gI_sI, if_neg (nf (by decide)), e6, gI_sI1]
    have fr7 : gI σ7 584 x = 0 := by rw [e7, gI_sI1]
    have l7 : gA σ7 324 0 = gA τ3 324 0 := by rw [e7, e6, e5, e4]; rfl
    rw [o7, z7, l7]
    refine ⟨⟨by omega, rn2.1.2⟩, ⟨by omega, rn2.1.2⟩, fun σ8 e8 => ?_⟩
    have nm3 := S3.2.2.1 n2 rn2.1.1 rn2.1.2
    have nm2 := S2.2.2.1 n2 rn2.1.1 rn2.1.2
    have lv3 : gA τ3 324 0 = gA τ2 324 0 := f3.a _ _ (fun q => by unfold mWr mBw at q; omega)
    have lvb : gA τ3 324 0 n2 + sz ≤ p2 + sz ∧ 0 ≤ gA τ3 324 0 n2 := by
      have a := nm2.2.2.2.1
      rw [ep2] at a
      have q := S3.nn hc (m := n2) (by omega)
      have b := nm3.2.2.1
      rw [lv3]
      rw [lv3] at b
      omega
    rw [w32_id (by unfold rI; omega)] at e8
    have F8 : Fr (mOw x) τ3 σ8 := by
      rw [e8, e7, e6, e5, e4]
      exact (((((Fr.rf _ _).sI (Or.inl ⟨by omega, rfl⟩)).sI (Or.inl ⟨by omega, rfl⟩)).sI (Or.inl ⟨by omega, rfl⟩)).sI (Or.inl ⟨by omega, rfl⟩)).sA (Or.inr ⟨rfl, rfl⟩)
    have k8 : RK σ8 := by
      rw [e8, e7, e6, e5, e4]
      exact ((((k3.sI (by show rI p2; unfold rI; omega)).sI (by show rI n2; unfold rI; omega)).sI (by show rI sz; unfold rI; omega)).sI (by show rZ 0; unfold rZ; omega)).sA (by show rI _; unfold rI; omega)
    have gi : ∀ f, gI σ8 f x = gI σ7 f x := fun f => by rw [e8]; rfl
    have S8 := S3.own (τ := σ8) (x := x) (n := n2) (p := p2) hc (fun n a b => D3.k hc ⟨a, b⟩) (by rw [krs]; exact hx) (by rw [(KEs x).2.1]; exact hf) (fun k k0 k1 => by
      rw [(KEs x).1.2.1] at k1
      rw [(KEs x).1.b k]
      rcases hch k k0 k1 with w | w
      · exact Or.inl w
      · exact Or.inr (by rw [(KEs _).2.1]; exact w)) hn3 n21 kg3' ⟨rn2.2, by rw [ep3, (KEs x).1.2.1, hsz]; omega⟩ (by rw [ep3, (KEs x).1.2.1, hsz]; omega) (by
      have oo : gI τ3 390 0 = gI σ 390 0 := by rw [f3.i _ _ (fun q => by unfold mWr mBw at q; omega), F2.i _ _ (fun q => by unfold mMd mRow mRm mWc mWr mBw mSf mMv at q; omega)]
      rw [krs, nfr_ext (σ := σ) (τ := τ3) (fun y _ => (KEs y).2.1), oo]; exact hol) (by rw [gi]; exact fr7) (by rw [gi]; exact o7) (by rw [gi]; exact p7) (by rw [gi, z7, (KEs x).1.2.1, hsz]) (by rw [(KEs x).1.2.1, hsz, e8, sA_up, l7]) F8 k8
    have nkw : ∀ f, (f = 451 ∨ f = 452) → gI σ8 f 4 = gI τ3 f 4 := fun f hf => F8.i _ _ (fun q => by unfold mOw at q; omega)
    have ks8 : ∀ y, KE τ3 σ8 y := fun y => KE.fr F8 (fun f a b q => by unfold mOw at q; omega)
    have krt8 : krt σ8 0 = krt τ3 0 := by
      unfold krt
      rw [F8.i 387 0 (fun q => by unfold mOw at q; omega), (ks8 _).1]
      exact (tr_fr _ _ (fun y _ => ks8 y)).2
    have su : ∀ f, (f = 323 ∨ f = 325) → gA σ8 f 0 = gA τ2 f 0 := fun f hf => by rw [F8.a _ _ (fun q => by unfold mOw at q; omega), f3.a _ _ (fun q => by unfold mWr mBw at q; omega)]
    refine hQ σ8 dk3 db3 S8 (D3.fr F8 (fun f o' a q => by unfold rBI at a; unfold mOw at q; omega)) ?_ (krt8.trans krs) (fun y => (KEs y).1.tr (ks8 y)) (by rw [gi]; exact fr7) (fun y ne => (KEs y).2.tr (OE.fr F8 (fun f a b q => by unfold mOw at q; omega))) ?_ ⟨by rw [gi, o7, nkw _ (by omega)]; exact hn3.symm, by rw [gi, p7, nkw _ (by omega)]; exact hp3.symm, by rw [gi]; exact z7, fun m a b => ((G3.1 m (fun z => b (by rw [z, nkw _ (by omega)]; exact hn3.symm))).1).trans (dk2e m a)⟩ ?_ ((LG2.tr (G3.lg rn2.1.1)).tr (LGo.fr F8 (fun f w _ a b q => by unfold mOw at q; omega))) ?_
    · rw [F8.i _ _ (fun q => by unfold mOw at q; omega), f3.i _ _ (fun q => by unfold mWr mBw at q; omega)]; exact s2
    · rw [gi, gi, o7, p7, ← g2]
      exact rL8_sh (fun i i0 i1 => by rw [show p2 + 8 + i = p2 + (8 + i) by omega, c3 _ (by omega) (by omega)]; congr 1; omega)
    · unfold KHo
      rw [nkw _ (by omega), nkw _ (by omega), hn3, hp3, su _ (by omega), su _ (by omega)]
      rcases cs with ⟨q1, q2, q3, q4, q5⟩ | ⟨q1, q2, q3, q4, q5, q6⟩
      · exact Or.inl ⟨q1, q2, by omega, q4, q5⟩
      · exact Or.inr ⟨q1, by omega, q3, q4, q5, q6⟩
    · refine ((F2.mono ?_).tr (f3.mono ?_)).tr (F8.mono ?_)
      · intro f o' q
        rcases q with q | q
        · exact Or.inl q
        · exact Or.inr (Or.inl q)
      · intro f o' q; exact Or.inr (Or.inr (Or.inl q))
      · intro f o' q; exact Or.inr (Or.inr (Or.inr q))
  rw [g3]
  have nme : ∀ k, 4 + cf.2.2 ≤ k → k < cf.1 - 6 → gA τ1 323 0 k = 0 → dk k = -1 ∧ ∀ v, isW 0 v → gI τ1 451 v ≠ k := by
    intro k k0 k1' hu
    obtain ⟨b1, b2, b3⟩ := (S1.2.2.1 k k0 k1').2.1 hu
    exact ⟨b1, fun v hv e => b3 ⟨v, hv, e⟩⟩
  refine sp_room (w := 0 + 4) (n := gI τ1 451 (0 + 4)) hc (Or.inl rfl) k1 isw D1 S1.1.1 rfl ⟨by omega, by omega⟩ (fun q => by rw [u1]; exact hE (by rw [hsz, ← w41 _ (Or.inl rfl), ← w41 _ (Or.inr rfl)]; exact q)) (fun q => ?_) nme (fun q1 q2 _ => ?_) (fun hno τ2 dk2 db2 k D2 W2 N2 F2 k2 _ => ?_)
  · have := (S1.2.2.2.1 4 isw q).1
    show gA τ1 323 0 (gI τ1 451 4) ≠ 0
    rw [this]; omega
  · refine rest τ1 dk db _ _ S1 D1 rfl q1 rfl q2 (LGo.fr f1 wf1) (fun _ _ => rfl) (Or.inl ⟨?_, ?_, ?_, u1, o1⟩) (f1.mono (fun f o' q => Or.inl q)) (Fr.rf _ _)
    · have := w41 451 (Or.inl rfl); rw [← this]; exact q1
    · exact w41 _ (Or.inl rfl)
    · exact w41 _ (Or.inr rfl)
  · have S2 := S1.neo hc isw rfl N2 W2 F2 k2
    have hu1 := N2.2.1
    have b := nme k N2.1.1 N2.1.2 hu1
    have lg2 := N2.lg hc b.1 b.2 S1.1.1 isw rfl (fun n a b => D1.k hc ⟨a, b⟩)
    obtain ⟨c1, c2, c3, c4, c5, c6, c7, c8, c9, -⟩ := N2
    have wn := w41 451 (Or.inl rfl)
    have wp := w41 452 (Or.inr rfl)
    refine rest τ2 dk2 db2 k 0 S2 D2 c4 (by omega) c5 (by omega) ((LGo.fr f1 wf1).tr lg2) (fun m a => c9 m (fun z => a (by rw [z]; exact wn))) (Or.inr ⟨?_, rfl, by rw [← u1]; exact c2, ?_, fun m m0 => ?_, ?_⟩) ((f1.mono (fun f o' q => Or.inl q)).tr (F2.mono (fun f o' q => Or.inr q))) F2
    · rw [← wn, ← wp]; exact hno
    · rw [← wn]; exact c3
    · rw [c6 m m0, u1, ← wn]; rfl
    · rw [c8, o1, if_pos rfl]
