/-- from the latest master on -/
theorem sp_find1 {tv : Nat → Int} {cf : Cf} {σ : St} {o : Int} {dk : Int → Int} {db : Int → Int → Int} {Sp : Int → Int → (Int → Int → Int) → Prop} {B : Int} (hc : CfOK cf) (ho : o = 0 ∨ o = 1) {σc : St} {l : Nat} {z c lg lr sM nx tn tp : Int} {lm : Int → Int} {bl : List (Int × Int × Int × List (List Int))} {s' X V t : Int} {S' : List (Int × Int × Int × (Int → Int)) × Int} {Q : St → Prop} {K : Int → Int → St → Prop} (hD : DJ tv cf σ o dk db Sp B) (hW : noW σ o) (hrk : RK σ) (hFC : FC tv cf dk db σc l z c lg lr sM nx tn tp) (hFS : FS tv cf dk db σc l z c lg lr sM nx tn tp bl s' S' X) (hF2 : FL2 tv cf dk db σc l z tn c lg lr s' X V S' lm) (hlm : LMo cf dk σc l z tn bl lm)
    (hI : IX σ o []) (hol : gI σ 390 o = 0) (hrt : gI σ 387 o = t) (hlt : gI σ 576 t = 0) (hct : gI σ 577 t = 0) (hsp : ∀ m, 0 ≤ m → m < cf.1 - 6 → gA σ 324 o m = 0 ∧ gA σ 325 o m = 0) (hmf : MF cf σ o c lg (gI σc 585 z) (gI σc 586 z) (gI σc 587 z) nx tn tp) (hag : gI σ 228 o = 0)
    (hQ : ∀ τ L', (RK τ ∧ noW τ o ∧ RS tv cf db (lmF dk) X τ o S' L') → (∀ m, 4 + cf.2.2 ≤ m → m < cf.1 - 6 → gA τ 324 o m = lS L' m + kS τ (krt τ o) m + oS τ o m + (if m = tn then tbl cf else 0)) → (∀ m, 0 ≤ m → m < 4 + cf.2.2 → gA τ 324 o m = 0) → (∀ m, 0 ≤ m → m < cf.1 - 6 → gA τ 324 o m ≤ lm m) → (∀ x, x ∈ krt τ o → gI τ 584 x = 0 → knE tv cf db (lmF dk) τ x) → (∀ i, 0 ≤ i → i < gI τ 390 o → isx σc l z tn (gA τ 388 o i) ∧ 32 ≤ gA τ 389 o i ∧ gA τ 389 o i ≤ 256) → (∀ x, x ∈ krt τ o → gI τ 584 x = 0 → isx σc l z tn (gI τ 585 x) ∧ srl (db (gI τ 585 x)) (gI τ 586 x) ≤ X) → (∀ m, 0 ≤ m → m < cf.1 - 6 → (isx σc l z tn m → gA τ 325 o m = 1 ∧ lS L' m = 0) ∧ (¬ isx σc l z tn m → gA τ 325 o m = 0)) → gI τ 390 o + nfr τ (krt τ o) ≤ 320 → (sM ≤ gI τ 202 o ∧ s' ≤ gI τ 202 o ∧ gI τ 202 o ≤ X ∧ (∀ k, 0 ≤ k → k < dk lg → srl (db lg) (128 * k) ≤ gI τ 202 o) ∧ ((0 < dk (5 - lg) ∧ rI4 (db (5 - lg)) 24 = c + 1) → V ≤ gI τ 202 o)) → Fr (fun f o' => ((f = 324 ∨ f = 325) ∧ o' = o) ∨ mIx o f o' ∨ mRx o f o' ∨ mRo o f o') σ τ → Q τ) :
    wp_Store_find_L36 cf tv o Q K sM 2 σ := by
  have hB : 24 ≤ cf.1 ∧ cf.1 ≤ 64 := hc.1
  have hR0 : 0 ≤ cf.2.2 ∧ cf.2.2 ≤ 4 := hc.2.2
  have ro : rowL o = 320 := by unfold rowL; rw [if_pos (by omega)]
  have hFC' := hFC
  have hFS' := hFS
  obtain ⟨⟨c1, c2⟩, ms, ⟨t1, t2, t3⟩, ⟨u1, u2, u3, u4⟩, ⟨l1, l2, l3, l4, l5, l6, l7⟩, e1, e2, e3, e4⟩ := hFC
  obtain ⟨s1, s2, s3, s4, s5, s6, s7, s8⟩ := hFS
  have tb := tblB hc
  have few := t1.few (by omega)
  obtain ⟨m1, m2, m3, m4, m5, m6, m7, m8, m9⟩ := hmf
  -- the old root
  obtain ⟨l0, z0, j1, j2, j3, j4, j5, j6, j7, j8, j9⟩ := id hI
  have z0t : z0 = t := j1.symm.trans hrt
  have l00 : l0 = 0 := by
    have := j2.cnt.2.1
    rw [z0t, hlt] at this
    omega
  rw [z0t, l00] at j2 j6 j7
  have j7' : gI σ 386 o = 1 := by rw [← j7]; rfl
  have jt := j6 t (List.mem_singleton.mpr rfl)
  unfold wp_Store_find_L36
  refine ⟨fun _ σ7 e7 => ?_, fun q => absurd (by omega) q⟩
  have f7 : Fr (fun f o' => f = 202 ∧ o' = o) σ σ7 := by rw [e7]; exact (Fr.rf _ _).sI ⟨rfl, rfl⟩
  have s7' : gI σ7 202 o = sM := by rw [e7, gI_sI1]
  have rjM : rJ sM := by
    have := (ms.2 0 (Or.inl rfl)).2.1.1.2.2.1
    rw [← this]; exact rL8_r _ _
  have k7 : RK σ7 := by rw [e7]; exact hrk.sI (by show rJ sM; exact rjM)
  have D7 := hD.fr f7 (fun f o' a q => by unfold rBI at a; omega)
  have W7 := hW.fr f7 (fun w _ q => by omega)
  have p7 := FP_fr (o := o) f7 ⟨fun q => by omega, fun q => by omega⟩
  have po7 := p7.2 j5
  have fr7 : gI σ7 386 o = 1 := by rw [f7.i _ _ (fun q => by omega)]; exact j7'
  rw [f7.i 206 o (fun q => by omega), f7.i 207 o (fun q => by omega), f7.i 221 o (fun q => by omega), m3, m4, m5]
  clear e7
  refine sp_load hc ho l 12 σ7 z (if l = 0 then 0 else 2) (-BIG) BIG _ (by omega) k7 D7 W7 t1 t2 po7 (by rw [fr7]; omega) (fun τ8 zz ld _ k8 => ?_)
  obtain ⟨⟨-, v1, v2, v3⟩, v4, v5, v6, ⟨v7, v8, v9, v10⟩, v11, v12, ⟨v13, v14⟩, ⟨v15, v16⟩, f8, v17⟩ := ld
  have nl : ∀ f o', mLd σ7 o f o' → mRd2 o o f o' ∨ ((f = 202 ∨ f = 325) ∧ o' = o) ∨ mIx o f o' := by
    intro f o' q
    rcases q with q | q | q
    · exact Or.inl q
    · by_cases w : f = 202 ∨ f = 325
      · exact Or.inr (Or.inl ⟨w, q.2⟩)
      · exact Or.inr (Or.inr (Or.inl ⟨by omega, q.2⟩))
    · obtain ⟨i, i1, i2⟩ := q.2
      have := (po7.2 i i1.1 i1.2).1
      exact Or.inr (Or.inr (Or.inr (Or.inl ⟨q.1, by omega, by omega⟩)))
  have D8 := D7.fr f8 mLd_b
  have W8 := W7.fr f8 (fun w _ => mLd_w _ w (by decide) (by decide))
  have nt7 : ¬ FP σ7 o t := fun q => jt.1 ((p7.1 t).mp q)
  have kt : KE σ7 τ8 t := KE.fr f8 (fun f a b => mLd_k nt7 f a (Nat.le_trans b (by decide)))
  have t8 : gI τ8 387 o = t := by rw [f8.i _ _ (fun q => by unfold mLd mRd2 mPg mRow at q; omega), f7.i _ _ (fun q => by omega)]; exact hrt
  have lt8 : gI τ8 576 t = 0 := by rw [kt.1, f7.i _ _ (fun q => by omega)]; exact hlt
  have ct8 : gI τ8 577 t = 0 := by rw [kt.2.1, f7.i _ _ (fun q => by omega)]; exact hct
  have wt8 : WT τ8 0 0 8 t (-BIG) BIG := ⟨j2.cnt.1, lt8, by rw [ct8]; omega, fun k k0 k1 => by rw [ct8] at k1; omega⟩
  have rng8 : ∀ y, FP σ7 o y → 320 * o ≤ y ∧ y < 320 * o + 320 := by
    intro y hy
    obtain ⟨i, i1, i2⟩ := hy
    rw [← i2]; exact (po7.2 i i1.1 i1.2).1
  refine sp_plant (t := t) t8 wt8 v7 ⟨fun q => nt7 (v8 t q), jt.2⟩ v4 (fun y hy => ?_) ?_ ?_ (fun τ9 i9 kr9 ol9 ke9 f9 k9 => ?_)
  · obtain ⟨a1, a2, a3, -⟩ := v6 y hy
    exact ⟨a1, a3, rng8 y a2, fun e => nt7 (by rw [← e]; exact a2)⟩
  · rw [v9, fr7, v10]
  · rw [f8.i _ _ (fun q => by unfold mLd mRd2 mPg mRow at q; omega), f7.i _ _ (fun q => by omega)]; exact hol
  have np : ∀ f o', mPl o f o' → mIx o f o' := fun f o' q => by unfold mPl at q; exact Or.inl ⟨by omega, q.2⟩
  have D9 := D8.fr f9 (fun f o' a q => by unfold rBI at a; unfold mPl at q; omega)
  have W9 := W8.fr f9 (fun w _ q => by unfold mPl at q; omega)
  -- fields that stay
  have st9 : ∀ f, (f = 212 ∨ f = 208 ∨ f = 203 ∨ f = 214 ∨ f = 215 ∨ f = 216 ∨ f = 228) → gI τ9 f o = gI σ f o := by
    intro f hf
    rw [f9.i _ _ (fun q => by unfold mPl at q; omega), f8.i _ _ (fun q => by unfold mLd mRd2 mPg mRow at q; omega), f7.i _ _ (fun q => by omega)]
  rw [st9 214 (by omega), st9 215 (by omega), st9 216 (by omega), m7, m8, m9]
  refine sp_sread hc D9 (W9.w cf dk db) ⟨by omega, u1.2⟩ u2 (by omega) (by omega) (by rw [W9.e (by omega)]; exact u3) (fun τ10 b1 b2 b3 b4 f10 k10 => ?_)
  have st10 : gI τ10 214 o = tn := by rw [f10.i _ _ (fun q => by unfold mRd2 mPg mRow at q; omega), st9 214 (by omega)]; exact m7
  rw [st10]
  refine ⟨⟨by omega, u1.2⟩, fun σ11 e11 y3 ey3 => ?_⟩
  rw [ey3]
  generalize hg : gA τ10 512 o = g at b1 b2
  have f11 : Fr (fun f o' => f = 325 ∧ o' = o) τ10 σ11 := by rw [e11]; exact (Fr.rf _ _).sA ⟨rfl, rfl⟩
  have k11 : RK σ11 := by rw [e11]; exact k10.sA (by show rZ 1; unfold rZ; omega)
  have oi11 : ∀ m, gA σ11 325 o m = if m = tn then 1 else gA τ8 325 o m := by
    intro m
    rw [e11, sA_if, f10.a 325 o (fun q => by unfold mRd2 mPg mRow at q; omega), f9.a 325 o (fun q => by unfold mPl at q; omega)]
  clear e11
  refine sp_table (g := g) hc ho k11 (by rw [f11.i _ _ (fun q => by omega)]; exact b3) (by rw [f11.a _ _ (fun q => by omega)]; exact hg) (fun τ12 lv12 lv12' f12 k12 K' => ?_)
  have R4 : ∀ m, 4 + cf.2.2 ≤ m → m < cf.1 - 6 → rI4 g (24 + 4 * (m - (4 + cf.2.2))) = tvl cf σc l z tn m := by
    intro m m0 m1
    rw [← u4 m m0 m1]
    have := tb.2.2 m m0 m1
    exact rI4_sh (fun i i0 i1 => by rw [b1 _ (by omega) (by omega)]; congr 1; omega)
  have f1112 : Fr (fun f o' => (f = 325 ∨ f = 324) ∧ o' = o) τ10 τ12 := (f11.mono (fun f o' q => ⟨Or.inl q.1, q.2⟩)).tr (f12.mono (fun f o' q => ⟨Or.inr q.1, q.2⟩))
  unfold wp_Store_find_L323
  refine ⟨fun _ => ?_, fun q => absurd (by omega) q⟩
  have at12 : gI τ12 513 o = 0 := by rw [f1112.i _ _ (fun q => by omega)]; exact b3
  have g12 : gA τ12 512 o = g := by rw [f1112.a _ _ (fun q => by omega)]; exact hg
  refine sp_rser at12 (by omega) (by omega) (fun _ js _ σ13 e13 => ?_)
  have es : rL8 g (0 + 8) = srl (db tn) tp := rL8_sh (fun i i0 i1 => by rw [b1 _ (by omega) (by omega)]; congr 1; omega)
  rw [g12, es] at js e13
  have f13 : Fr (fun f o' => f = 202 ∧ o' = o) τ12 σ13 := by rw [e13]; exact (Fr.rf _ _).sI ⟨rfl, rfl⟩
  have sr12 : gI τ12 202 o = gI τ8 202 o := by rw [f1112.i _ _ (fun q => by omega), f10.i _ _ (fun q => by unfold mRd2 mPg mRow at q; omega), f9.i _ _ (fun q => by unfold mPl at q; omega)]
  have sr13 : gI σ13 202 o = max (gI τ8 202 o) (srl (db tn) tp) := by rw [e13, gI_sI1, sr12]
  have k13 : RK σ13 := by
    rw [e13]
    refine k12.sI ?_
    show rJ _
    have := k12.j 202 o (by decide)
    unfold rJ at this js ⊢
    omega
  clear e13
  -- from τ9 on: rows, live, ofIndex, serial
  have F : Fr (fun f o' => mRd2 o o f o' ∨ ((f = 325 ∨ f = 324 ∨ f = 202) ∧ o' = o)) τ9 σ13 := ((f10.mono (fun f o' q => Or.inl q)).tr (f1112.mono (fun f o' q => Or.inr ⟨by omega, q.2⟩))).tr (f13.mono (fun f o' q => Or.inr ⟨by omega, q.2⟩))
  have kf : ∀ f x, 576 ≤ f → f ≤ 587 → ¬ (mRd2 o o f x ∨ ((f = 325 ∨ f = 324 ∨ f = 202) ∧ x = o)) := fun f x a b q => by unfold mRd2 mPg mRow at q; omega
  have xf : ∀ f, 385 ≤ f → f ≤ 390 → ¬ (mRd2 o o f o ∨ ((f = 325 ∨ f = 324 ∨ f = 202) ∧ o = o)) := fun f a b q => by unfold mRd2 mPg mRow at q; omega
  have i13 := i9.fr F kf xf
  rw [v5] at i13
  have ke13 : ∀ y, KE τ8 σ13 y ∧ OE τ8 σ13 y := fun y => ⟨(ke9 y).1.tr (KE.fr F (fun f a b => kf f y a (Nat.le_trans b (by decide)))), (ke9 y).2.tr (OE.fr F (fun f a b => kf f y (Nat.le_trans (by decide) a) b))⟩
  have kr13 : krt σ13 o = kl τ8 l zz := by
    obtain ⟨lx, zx, a1, a2, a3, a4, a5⟩ := i9.krt
    have rt : gI σ13 387 o = zx := by rw [F.i _ _ (fun q => by unfold mRd2 mPg mRow at q; omega)]; exact a4
    have kx : ∀ x, x ∈ kl τ9 lx zx → KE τ9 σ13 x := fun x _ => KE.fr F (fun f a b => kf f x a (Nat.le_trans b (by decide)))
    have lv : gI σ13 576 zx = lx := by rw [(kx zx (kl_self _ _ _)).1]; exact a2.cnt.2.1
    rw [krt_eq rt lv, (tr_fr lx zx kx).2, ← a1, kr9]
  have st13 : ∀ f, (f = 212 ∨ f = 208 ∨ f = 203 ∨ f = 228) → gI σ13 f o = gI σ f o := by
    intro f hf
    rw [F.i _ _ (fun q => by unfold mRd2 mPg mRow at q; omega)]; exact st9 f (by omega)
  have lv13 : gA σ13 324 o = gA τ12 324 o := f13.a _ _ (fun q => by omega)
  have wcnt := fun y hy => t1.kcnt y hy
  refine sp_find3 (bl := bl) (s' := s') (S' := S') (V := V) (X := X) hc ho (D9.fr F (fun f o' a q => by unfold rBI at a; unfold mRd2 mPg mRow at q; omega)) (W9.fr F (fun w _ q => by unfold mRd2 mPg mRow at q; omega)) k13 hFC' hFS' hF2 hlm i13 ?_ ?_ ?_ ?_ ?_ ⟨?_, ?_⟩ ?_ ⟨?_, ?_, ?_⟩ (fun τ L' h1 h2 h3 h4 h5 h6 h7 h8 h8b h9 h10 => ?_)
  · intro m m0 m1'
    rw [lv13, lv12 m m0 m1']; exact R4 m m0 m1'
  · intro m m0 m1'
    rw [lv13, lv12' m m1', f11.a 324 o (fun q => by omega), f10.a 324 o (fun q => by unfold mRd2 mPg mRow at q; omega), f9.a 324 o (fun q => by unfold mPl at q; omega), f8.a 324 o (fun q => by unfold mLd mRd2 mPg mRow at q; omega), f7.a 324 o (fun q => by omega)]
    exact (hsp m m0 (by omega)).1
  · intro m
    rw [kr13, ← v11 m]
    exact kS_ext (fun x _ => (ke13 x).2.z m)
  · rw [F.i _ _ (fun q => by unfold mRd2 mPg mRow at q; omega)]; exact ol9
  · intro x hx
    rw [kr13] at hx
    have kn := knE.tree v4 (fun w _ => ke13 w) v17 x hx
    obtain ⟨yy, yy1, yy2, yy3⟩ := (v6 x hx).2.2.2
    refine ⟨kn, ?_, by rw [(ke13 x).2.2.1, (ke13 x).2.2.2.1, yy2, yy3]; exact s7 yy yy1⟩
    rw [(ke13 x).2.2.1]
    have ps : 32 ≤ kS τ8 (kl τ8 l zz) (gI τ8 585 x) := kS_pos (fun y hy _ => ((v17 y hy).sz (v4.kcnt y hy)).1) x hx (v6 x hx).1
    rw [v11] at ps
    obtain ⟨y, y1, y2, y3⟩ := kS_ex (show kS σc (kl σc l z) (gI τ8 585 x) ≠ 0 by omega)
    exact Or.inr ⟨y, y1, y3⟩
  · rw [sr13]
    have := v14 X (by rw [s7']; exact s5.2.2) s7
    omega
  · rw [sr13]; omega
  · rw [st13 _ (by omega)]; exact hag
  · rw [st13 _ (by omega)]; exact m1
  · rw [st13 _ (by omega)]; exact m2
  · rw [st13 _ (by omega)]; exact m6
  · refine hQ τ L' h1 h2 h3 h4 h5 h6 h7 (fun m m0 m1' => ?_) h8b h9 ?_
    · have oi : gA τ 325 o m = if m = tn then 1 else gA τ8 325 o m := by
        rw [h10.a 325 o (fun q => by unfold mRo mRx mRp mRd2 mPg mRow mAp mIx mOr at q; omega), f13.a 325 o (fun q => by omega), f12.a 325 o (fun q => by omega)]
        exact oi11 m
      have o0 : gA σ7 325 o m = 0 := by rw [f7.a 325 o (fun q => by omega)]; exact (hsp m m0 m1').2
      refine ⟨fun q => ⟨?_, h8 m m0 m1' q⟩, fun q => ?_⟩
      · rw [oi]
        rcases q with q | ⟨y, y1, y2⟩
        · rw [if_pos q]
        · by_cases w : m = tn
          · rw [if_pos w]
          · rw [if_neg w, ← y2]; exact v15 y y1
      · rw [oi, if_neg (fun w => q (Or.inl w)), v16 m (fun y hy w => q (Or.inr ⟨y, hy, w⟩))]
        exact o0
    · refine ((f7.mono ?_).tr (f8.mono ?_)).tr ((f9.mono ?_).tr ((F.mono ?_).tr (h10.mono ?_)))
      · intro f o' q; exact Or.inr (Or.inr (Or.inl (Or.inl (Or.inr (Or.inr ⟨Or.inr q.1, q.2⟩)))))
      · intro f o' q
        rcases nl f o' q with q | q | q
        · exact Or.inr (Or.inr (Or.inl (Or.inl (Or.inl q))))
        · rcases q.1 with w | w
          · exact Or.inr (Or.inr (Or.inl (Or.inl (Or.inr (Or.inr ⟨Or.inr w, q.2⟩)))))
          · exact Or.inl ⟨Or.inr w, q.2⟩
        · exact Or.inr (Or.inl q)
      · intro f o' q; exact Or.inr (Or.inl (np f o' q))
      · intro f o' q
        rcases q with q | q
        · exact Or.inr (Or.inr (Or.inl (Or.inl (Or.inl q))))
        · rcases q.1 with w | w | w
          · exact Or.inl ⟨Or.inr w, q.2⟩
          · exact Or.inl ⟨Or.inl w, q.2⟩
          · exact Or.inr (Or.inr (Or.inl (Or.inl (Or.inr (Or.inr ⟨Or.inr w, q.2⟩)))))
      · intro f o' q; exact Or.inr (Or.inr q)
