/-! the store in memory, when low numbers change on the flash, and when a sweep is done -/
theorem WW.x {cf : Cf} {σ : St} {dk dk' : Int → Int} {db db' : Int → Int → Int} (h : WW cf σ 0 dk db) (hd : ∀ w, isW 0 w → gI σ 451 w ≠ -1 → dk' (gI σ 451 w) = dk (gI σ 451 w) ∧ ∀ p, db' (gI σ 451 w) p = db (gI σ 451 w) p) : WW cf σ 0 dk' db' := by
  obtain ⟨a, b⟩ := h.all
  exact WW.of (fun w hw => (a w hw).x (fun n => (hd w hw n).1) (fun n p _ _ => (hd w hw n).2 p)) b
theorem SA.low {tv : Nat → Int} {cf : Cf} {σ : St} {dk dk' : Int → Int} {db db' : Int → Int → Int} {L : List (Int × Int × Int × Int × Int × Int)} (h : SA tv cf σ dk db L) (hd : ∀ m, 4 + cf.2.2 ≤ m → m < cf.1 - 6 → dk' m = dk m ∧ ∀ p, db' m p = db m p) : SA tv cf σ dk' db' L := by
  obtain ⟨⟨w1, w2⟩, ⟨x1, x2, x3⟩, nm, wu, kn, ol, tb, l0⟩ := h
  have ee : ∀ m, 4 + cf.2.2 ≤ m → m < cf.1 - 6 → eE σ 0 dk' m = eE σ 0 dk m := fun m m0 m1 => by unfold eE; rw [(hd m m0 m1).1]
  refine ⟨⟨w1.x (fun w hw nn => ?_), w2⟩, ⟨x1, x2, x3.grow (fun e he => ?_) (fun e he p p0 p1 => ?_)⟩, fun m m0 m1 => ?_, wu, fun x hx hf => ?_, ol, tb, l0⟩
  · rcases (w1.all.1 w hw) with q | q
    · exact absurd q nn
    · exact hd _ q.1.1 q.1.2
  · have q := x3 e he
    rw [ee _ q.1.1 q.1.2]; exact q.2.2.2.2.2.2
  · exact (hd _ (x3 e he).1.1 (x3 e he).1.2).2 p
  · obtain ⟨a1, a2, a3, a4, a5, a6, a7⟩ := nm m m0 m1
    obtain ⟨d1, d2⟩ := hd m m0 m1
    have de : db' m = db m := funext d2
    have lm : lmF dk' m = lmF dk m := by unfold lmF; rw [d1]
    refine ⟨a1, fun q => by rw [d1]; exact a2 q, a3, by rw [ee m m0 m1]; exact a4, a5, a6, fun q => ?_⟩
    unfold chM
    rw [ee m m0 m1, de, lm]; exact a7 q
  · obtain ⟨b1, b2⟩ := kn x hx hf
    have r := b1.2.2.1
    exact ⟨b1.grow (lim' := eE σ 0 dk') (krt_cnt x1.1 x hx).1 (by rw [ee _ r.1 r.2]; exact Int.le_refl _) (fun p _ => (hd _ r.1 r.2).2 p), b2⟩
theorem SA.swept {tv : Nat → Int} {cf : Cf} {σ τ : St} {dk dk' : Int → Int} {db : Int → Int → Int} {L : List (Int × Int × Int × Int × Int × Int)} (hc : CfOK cf) (h : SA tv cf σ dk db L) (fr : Fr (fun f o' => mMv 0 f o' ∨ (f = 323 ∧ o' = 0)) σ τ) (rk : RK τ) (hs : ∀ k, swp cf (gA σ 323 0) (gA σ 324 0) (cf.1 - 6) k → dk' k = -1 ∧ gA τ 323 0 k = 0) (hn : ∀ k, ¬ swp cf (gA σ 323 0) (gA σ 324 0) (cf.1 - 6) k → dk' k = dk k ∧ gA τ 323 0 k = gA σ 323 0 k) : SA tv cf τ dk' db L := by
  have hR : 0 ≤ cf.2.2 ∧ cf.2.2 ≤ 4 := hc.2.2
  have nn := fun {m : Int} (hm : 0 ≤ m) => h.nn hc hm
  have nh := fun {v : Int} (hv : 0 ≤ v) (hu : gA σ 323 0 v = 1) => h.nh hv hu
  obtain ⟨⟨w1, w2⟩, ⟨x1, x2, x3⟩, nm, wu, kn, ol, tb, l0⟩ := h
  have nwr : ∀ f v, (v = 0 ∨ v = 0 + 2 ∨ v = 0 + 4) → 450 ≤ f → f ≤ 452 → ¬ (mMv 0 f v ∨ (f = 323 ∧ v = 0)) := fun f v hv a b q => by unfold mMv at q; omega
  have nk : ∀ f x, 576 ≤ f → f ≤ 587 → ¬ (mMv 0 f x ∨ (f = 323 ∧ x = 0)) := fun f x a b q => by unfold mMv at q; omega
  have nx : ∀ f, 385 ≤ f → f ≤ 390 → ¬ (mMv 0 f 0 ∨ (f = 323 ∧ (0 : Int) = 0)) := fun f a b q => by unfold mMv at q; omega
  have ns : ∀ f, (f = 324 ∨ f = 325) → gA τ f 0 = gA σ f 0 := fun f hf => fr.a _ _ (fun q => by unfold mMv at q; omega)
  have nt : ∀ f, (f = 214 ∨ f = 216) → gI τ f 0 = gI σ f 0 := fun f hf => fr.i _ _ (fun q => by unfold mMv at q; omega)
  have nu : ∀ v, isW 0 v → gI τ 451 v = gI σ 451 v := fun v hv => fr.i _ _ (nwr _ v hv (by decide) (by decide))
  obtain ⟨kr, ko⟩ := krt_fr (o := 0) fr nk (nx _ (by decide) (by decide))
  have hh : ∀ m, hld τ 0 m ↔ hld σ 0 m := fun m => ⟨fun ⟨v, v1, v2⟩ => ⟨v, v1, by rw [← nu v v1]; exact v2⟩, fun ⟨v, v1, v2⟩ => ⟨v, v1, by rw [nu v v1]; exact v2⟩⟩
  have eeq : ∀ m, ¬ swp cf (gA σ 323 0) (gA σ 324 0) (cf.1 - 6) m → eE τ 0 dk' m = eE σ 0 dk m := fun m q => by
    rw [eE_fr fr nwr]; unfold eE; rw [(hn m q).1]
  have os : ∀ m, oS τ 0 m = oS σ 0 m := fun m => by
    unfold oS
    rw [fr.a 388 0 (nx _ (by decide) (by decide)), fr.a 389 0 (nx _ (by decide) (by decide)), fr.i 390 0 (nx _ (by decide) (by decide))]
  have ks : ∀ m, kS τ (krt τ 0) m = kS σ (krt σ 0) m := fun m => by rw [kr]; exact kS_ext (fun x _ => (ko x).2.z m)
  have tbe : ∀ m, tbS τ m = tbS σ m := fun m => by unfold tbS; rw [nt 214 (by omega), nt 216 (by omega)]
  have nwu : ∀ v, isW 0 v → gI σ 451 v ≠ -1 → ¬ swp cf (gA σ 323 0) (gA σ 324 0) (cf.1 - 6) (gI σ 451 v) := fun v hv n q => by
    have := (wu v hv n).1
    have := q.2.1
    omega
  have ne : ∀ e, e ∈ L → ¬ swp cf (gA σ 323 0) (gA σ 324 0) (cf.1 - 6) e.2.2.1 := fun e he q => by
    have r := x3 e he
    have j := r.2.1.n
    have p := lS_pos x1.2.1 he (by omega)
    have a := (nm _ r.1.1 r.1.2).2.2.1
    have b := nn (m := e.2.2.1) (by omega)
    have := q.2.2
    omega
  have nkn : ∀ x, x ∈ krt σ 0 → gI σ 584 x = 0 → ¬ swp cf (gA σ 323 0) (gA σ 324 0) (cf.1 - 6) (gI σ 585 x) := fun x hx hf q => by
    have r := (kn x hx hf).1.2.2.1
    have p := kS_pos (fun y hy fy => ((kn y hy fy).1.sz (krt_cnt x1.1 y hy)).1) x hx hf
    have a := (nm _ r.1 r.2).2.2.1
    have b := nn (m := gI σ 585 x) (by omega)
    have := q.2.2
    omega
  refine ⟨⟨(w1.x (dk' := dk') (db' := db) (fun w hw n => ⟨(hn _ (nwu w hw n)).1, fun _ => rfl⟩)).fr fr nwr, rk⟩, ⟨⟨x1.1.fr fr nk nx, x1.2.1, by rw [ns 324 (by omega)]; exact x1.2.2⟩, x2, x3.grow (fun e he => ?_) (fun e he p p0 p1 => rfl)⟩, fun m m0 m1 => ?_, fun v hv nv => ?_, fun x hx hf => ?_, ?_, ?_, ?_⟩
  · rw [eeq _ (ne e he)]; exact (x3 e he).2.2.2.2.2.2
  · obtain ⟨a1, a2, a3, a4, a5, a6, a7⟩ := nm m m0 m1
    unfold NM
    rw [ns 324 (by omega), ns 325 (by omega), ks, os, tbe, nt 214 (by omega)]
    by_cases q : swp cf (gA σ 323 0) (gA σ 324 0) (cf.1 - 6) m
    · obtain ⟨q1, q2⟩ := hs m q
      have nhm := nh (v := m) (by omega) q.2.1
      have l0' := q.2.2
      have e0 : eE τ 0 dk' m = lmF dk' m := eE_no (fun v hv e => nhm ⟨v, hv, by rw [← nu v hv]; exact e⟩)
      have e1 : lmF dk' m = 0 := by unfold lmF; rw [q1]; rfl
      rw [q2]
      exact ⟨by omega, fun _ => ⟨q1, l0', fun y => nhm ((hh m).mp y)⟩, a3, by rw [e0, e1]; omega, a5, a6, fun z => absurd rfl z⟩
    · obtain ⟨q1, q2⟩ := hn m q
      have lm : lmF dk' m = lmF dk m := by unfold lmF; rw [q1]
      rw [q2, eeq m q]
      refine ⟨a1, fun z => ?_, a3, a4, a5, a6, fun z => ?_⟩
      · obtain ⟨b1, b2, b3⟩ := a2 z
        exact ⟨by rw [q1]; exact b1, b2, fun y => b3 ((hh m).mp y)⟩
      · obtain ⟨b1, b2⟩ := a7 z
        refine ⟨fun y => ?_, fun y => ?_⟩
        · rw [eeq m q]; exact b1 ((hh m).mp y)
        · rw [lm]; exact b2 (fun z => y ((hh m).mpr z))
  · rw [nu v hv] at nv ⊢
    rw [ns 325 (by omega), (hn _ (nwu v hv nv)).2]
    exact wu v hv nv
  · rw [kr] at hx
    rw [(ko x).2.1] at hf
    obtain ⟨b1, b2⟩ := kn x hx hf
    have cx := krt_cnt x1.1 x hx
    rw [ns 325 (by omega), (ko x).2.2.1]
    refine ⟨?_, b2⟩
    have g1 := b1.grow (db' := db) (lim' := eE τ 0 dk') cx.1 (by rw [eeq _ (nkn x hx hf)]; exact Int.le_refl _) (fun p p1 => rfl)
    exact g1.fr (ko x) (fun k _ _ => Or.inr (ko _).2)
  · rw [ns 325 (by omega), fr.a 388 0 (nx _ (by decide) (by decide)), fr.a 389 0 (nx _ (by decide) (by decide)), fr.i 390 0 (nx _ (by decide) (by decide))]
    exact ol
  · rw [nt 214 (by omega), nt 216 (by omega), ns 325 (by omega)]; exact tb
  · rw [ns 324 (by omega)]; exact l0
