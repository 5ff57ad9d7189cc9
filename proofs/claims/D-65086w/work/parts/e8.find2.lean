theorem noW.e {σ : St} {o n : Int} {dk : Int → Int} (h : noW σ o) (n0 : 0 ≤ n) : eE σ o dk n = lmF dk n := by
  unfold eE
  rw [if_neg (by rw [h.1]; omega), if_neg (by rw [h.2.1]; omega), if_neg (by rw [h.2.2]; omega)]
  rfl
theorem tblB {cf : Cf} (hc : CfOK cf) : 56 ≤ tbl cf ∧ tbl cf ≤ 248 ∧ ∀ m, 4 + cf.2.2 ≤ m → m < cf.1 - 6 → 24 + 4 * (m - (4 + cf.2.2)) + 4 ≤ tbl cf := by
  have hB : 24 ≤ cf.1 ∧ cf.1 ≤ 64 := hc.1
  have hR : 0 ≤ cf.2.2 ∧ cf.2.2 ≤ 4 := hc.2.2
  unfold tbl
  refine ⟨by omega, by omega, fun m m0 m1 => by omega⟩
/-- behind the table: the nameless and the logs -/
theorem sp_find3 {tv : Nat → Int} {cf : Cf} {σ : St} {o : Int} {dk : Int → Int} {db : Int → Int → Int} {Sp : Int → Int → (Int → Int → Int) → Prop} {B : Int} (hc : CfOK cf) (ho : o = 0 ∨ o = 1) {σc : St} {l : Nat} {z c lg lr sM nx tn tp : Int} {lm : Int → Int} {bl : List (Int × Int × Int × List (List Int))} {s' X V : Int} {S' : List (Int × Int × Int × (Int → Int)) × Int} {Q : St → Prop} (hD : DJ tv cf σ o dk db Sp B) (hW : noW σ o) (hrk : RK σ) (hFC : FC tv cf dk db σc l z c lg lr sM nx tn tp) (hFS : FS tv cf dk db σc l z c lg lr sM nx tn tp bl s' S' X) (hF2 : FL2 tv cf dk db σc l z tn c lg lr s' X V S' lm) (hlm : LMo cf dk σc l z tn bl lm)
    (hI : IX σ o (ls σc l z)) (hlv : ∀ m, 4 + cf.2.2 ≤ m → m < cf.1 - 6 → gA σ 324 o m = tvl cf σc l z tn m) (hlv0 : ∀ m, 0 ≤ m → m < 4 + cf.2.2 → gA σ 324 o m = 0) (hkS : ∀ m, kS σ (krt σ o) m = kS σc (kl σc l z) m) (hol : gI σ 390 o = 0) (hkn : ∀ x, x ∈ krt σ o → knE tv cf db (lmF dk) σ x ∧ isx σc l z tn (gI σ 585 x) ∧ srl (db (gI σ 585 x)) (gI σ 586 x) ≤ X) (hsr : gI σ 202 o ≤ X ∧ sM ≤ gI σ 202 o) (hag : gI σ 228 o = 0) (hcm : gI σ 212 o = c ∧ gI σ 208 o = lg ∧ gI σ 203 o = nx)
    (hQ : ∀ τ L', (RK τ ∧ noW τ o ∧ RS tv cf db (lmF dk) X τ o S' L') → (∀ m, 4 + cf.2.2 ≤ m → m < cf.1 - 6 → gA τ 324 o m = lS L' m + kS τ (krt τ o) m + oS τ o m + (if m = tn then tbl cf else 0)) → (∀ m, 0 ≤ m → m < 4 + cf.2.2 → gA τ 324 o m = 0) → (∀ m, 0 ≤ m → m < cf.1 - 6 → gA τ 324 o m ≤ lm m) → (∀ x, x ∈ krt τ o → gI τ 584 x = 0 → knE tv cf db (lmF dk) τ x) → (∀ i, 0 ≤ i → i < gI τ 390 o → isx σc l z tn (gA τ 388 o i) ∧ 32 ≤ gA τ 389 o i ∧ gA τ 389 o i ≤ 256) → (∀ x, x ∈ krt τ o → gI τ 584 x = 0 → isx σc l z tn (gI τ 585 x) ∧ srl (db (gI τ 585 x)) (gI τ 586 x) ≤ X) → (∀ m, 0 ≤ m → m < cf.1 - 6 → isx σc l z tn m → lS L' m = 0) → gI τ 390 o + nfr τ (krt τ o) ≤ 320 → (sM ≤ gI τ 202 o ∧ s' ≤ gI τ 202 o ∧ gI τ 202 o ≤ X ∧ (∀ k, 0 ≤ k → k < dk lg → srl (db lg) (128 * k) ≤ gI τ 202 o) ∧ ((0 < dk (5 - lg) ∧ rI4 (db (5 - lg)) 24 = c + 1) → V ≤ gI τ 202 o)) → Fr (fun f o' => mRx o f o' ∨ mRo o f o') σ τ → Q τ) :
    wp_Store_readOrphans cf tv o (fun σ1 => RK σ1 → wp_Store_replay cf tv o (gI σ1 208 o) (gI σ1 212 o) (fun σ2 => RK σ2 → wp_Store_replay cf tv o (w32 (5 - (gI σ2 208 o))) (w32 ((gI σ2 212 o) + 1)) (fun σ3 => RK σ3 → Q σ3) σ2) σ1) σ := by
  have hB : 24 ≤ cf.1 ∧ cf.1 ≤ 64 := hc.1
  have hR0 : 0 ≤ cf.2.2 ∧ cf.2.2 ≤ 4 := hc.2.2
  obtain ⟨⟨c1, c2⟩, ms, ⟨t1, t2, t3⟩, -, ⟨l1, l2, l3, l4, l5, l6, l7⟩, e1, e2, e3, e4⟩ := hFC
  obtain ⟨s1, s2, s3, s4, s5, s6, s7, s8⟩ := hFS
  have sz := e1.sz hc
  have few := t1.few (by omega)
  have lsz : ∀ m, 0 ≤ kS σc (kl σc l z) m ∧ kS σc (kl σc l z) m ≤ 256 * (kl σc l z).length := fun m => kS_r (fun x hx _ => by
    have k := t1.kcnt x hx
    have := (t2 x hx).sz k
    omega)
  have tb := tblB hc
  have szz : ∀ m, (∀ e, e ∈ ls σc l z → e.2.2.1 ≠ m) → lS (ls σc l z) m = 0 := fun m h => lS_out h
  refine sp_orphans hc ho hD hcm.2.1 ⟨by omega, by omega⟩ l1 rfl ⟨by omega, by omega⟩ (fun σ1 o1 o2 f1 k1 _ => ?_)
  have n1 : ∀ f o', mRs o f o' → ¬ ((f = 217 ∨ f = 218) ∧ o' = o) → ¬ mRo o f o' := fun f o' a b q => by unfold mRs at a; unfold mRo mRow mOr at q; omega
  have b1 : ∀ f o', rBI o f o' → ¬ mRo o f o' := fun f o' a q => by unfold rBI at a; unfold mRo mRow mOr at q; omega
  have D1 := hD.fr f1 b1
  have W1 := hW.fr f1 (fun w _ q => by unfold mRo mRow mOr at q; omega)
  have kf : ∀ f x, 576 ≤ f → f ≤ 587 → ¬ mRo o f x := fun f x a b q => by unfold mRo mRow mOr at q; omega
  have xf : ∀ f, 385 ≤ f → f ≤ 390 → ¬ mRo o f o := fun f a b q => by unfold mRo mRow mOr at q; omega
  have I1 := hI.fr f1 kf xf
  have ck1 : CK σ σ1 o := CK.fr f1 kf xf
  have lv1 : gA σ1 324 o = gA σ 324 o := f1.a _ _ (fun q => by unfold mRo mRow mOr at q; omega)
  have sr1 : gI σ1 202 o = gI σ 202 o := f1.i _ _ (fun q => by unfold mRo mRow mOr at q; omega)
  have ag1 : gI σ1 228 o = 0 := by rw [f1.i _ _ (fun q => by unfold mRo mRow mOr at q; omega)]; exact hag
  have cm1 : gI σ1 212 o = c := by rw [f1.i _ _ (fun q => by unfold mRo mRow mOr at q; omega)]; exact hcm.1
  have lg1 : gI σ1 208 o = lg := by rw [f1.i _ _ (fun q => by unfold mRo mRow mOr at q; omega)]; exact hcm.2.1
  have nx1 : gI σ1 203 o = nx := by rw [f1.i _ _ (fun q => by unfold mRo mRow mOr at q; omega)]; exact hcm.2.2
  have lim0 : ∀ m, 0 ≤ m → m < cf.1 - 6 → gA σ 324 o m ≤ lm m := by
    intro m m0 m1
    by_cases q : 4 + cf.2.2 ≤ m
    · rw [hlv m q m1]; exact (hlm.2 m m0 m1).1
    · rw [hlv0 m m0 (by omega)]; exact (hlm.2 m m0 m1).2.1
  have dlt : ∀ m, 0 ≤ m → m < cf.1 - 6 → gA σ 324 o m - lS (ls σc l z) m = if 4 + cf.2.2 ≤ m then kS σc (kl σc l z) m + (if m = tn then tbl cf else 0) else 0 := by
    intro m m0 m1
    by_cases q : 4 + cf.2.2 ≤ m
    · rw [hlv m q m1, if_pos q]; unfold tvl; omega
    · rw [hlv0 m m0 (by omega), szz m (fun e he w => by have := (e1 e he).1; omega), if_neg q]; rfl
  have RS1 : RS tv cf db (lmF dk) X σ1 o (AM db (ls σc l z), nx) (ls σc l z) := by
    refine ⟨⟨I1, sz, fun m m0 m1 => ?_⟩, rfl, nx1, ?_, by rw [o2]; omega, e1, s8.2⟩
    · rw [lv1, dlt m m0 m1]
      have := lsz m
      split
      · split <;> omega
      · omega
    · rw [o1]; exact l7
  rw [lg1, cm1]
  have h0 : max (gI σ1 228 o) lr = lr := by rw [ag1]; omega
  refine sp_replay (X := X) hc ho k1 D1 W1 ⟨by omega, by omega⟩ s1 l4 l2 l3 l5 (by rw [h0]; exact s2) RS1 s3 (fun b hb => ?_) (by rw [ag1, sr1]; have := ms.1; omega) ⟨by rw [sr1]; exact hsr.1, s5.2.1, by rw [← l4]; exact s6 0 (by omega) (by omega), s6⟩ (by rw [lv1]; exact lim0) hlm.1 (fun σ2 L2 rp su2 sk2 lm2 lo2 _ => ?_)
  · rw [lv1]
    have := s4 b hb
    have rg : 4 + cf.2.2 ≤ b.1 ∧ b.1 < cf.1 - 6 := by
      have rng : ∀ (bl : List (Int × Int × Int × List (List Int))) (k s : Int) (S : List (Int × Int × Int × (Int → Int)) × Int), bR tv cf dk db lg lr bl k s S s' S' → ∀ x, x ∈ bl → 4 + cf.2.2 ≤ x.1 ∧ x.1 < cf.1 - 6 := by
        intro bl
        induction bl with
        | nil => intro k s S h x hx; exact absurd hx List.not_mem_nil
        | cons y bl ih =>
          obtain ⟨n, a, b, t⟩ := y
          intro k s S h x hx
          obtain ⟨_, h1, _, _, s1, S1, v, _, _, h2⟩ := h
          rcases List.mem_cons.mp hx with e | e
          · rw [e]; exact h1
          · exact ih _ _ _ h2 x e
      exact rng _ _ _ _ s2 b hb
    rw [hlv b.1 rg.1 rg.2]; exact this.1
  · obtain ⟨r1, r2, r3, r4, r5, r6, r7, r8⟩ := rp
    have cm2 : gI σ2 212 o = c := by rw [r5.i _ _ (fun q => by unfold mRx mRp mRd2 mPg mRow mAp mIx mOr at q; omega)]; exact cm1
    have lg2 : gI σ2 208 o = lg := by rw [r5.i _ _ (fun q => by unfold mRx mRp mRd2 mPg mRow mAp mIx mOr at q; omega)]; exact lg1
    have F2 : Fr (fun f o' => mRx o f o' ∨ mRo o f o') σ σ2 := (f1.mono (fun f o' q => Or.inr q)).tr (r5.mono (fun f o' q => Or.inl q))
    have D2 := D1.fr r5 mRx_b
    have W2 := W1.fr r5 (fun w _ => mRx_w _ w (by decide) (by decide))
    have ss2 : s' ≤ gI σ2 202 o := by
      have := sk2 0 (by omega) (by omega)
      rw [show (128 : Int) * 0 = 0 by omega, l4] at this
      omega
    have ckA : CK σ σ2 o := ck1.tr r3
    -- what holds at the end
    have fin : ∀ τ L', (RK τ ∧ noW τ o ∧ RS tv cf db (lmF dk) X τ o S' L') → CK σ τ o → (∀ m, 0 ≤ m → m < cf.1 - 6 → gA τ 324 o m - lS L' m = gA σ 324 o m - lS (ls σc l z) m) → (∀ m, 0 ≤ m → m < cf.1 - 6 → gA τ 324 o m ≤ lm m) → (∀ m, 0 ≤ m → m < cf.1 - 6 → (m < 4 + cf.2.2 ∨ isx σc l z tn m) → gA τ 324 o m ≤ gA σ 324 o m) → (s' ≤ gI τ 202 o ∧ gI σ 202 o ≤ gI τ 202 o ∧ gI τ 202 o ≤ X ∧ (∀ k, 0 ≤ k → k < dk lg → srl (db lg) (128 * k) ≤ gI τ 202 o) ∧ ((0 < dk (5 - lg) ∧ rI4 (db (5 - lg)) 24 = c + 1) → V ≤ gI τ 202 o)) → Fr (fun f o' => mRx o f o' ∨ mRo o f o') σ τ → Q τ := by
      intro τ L' hR hC hl hm hd hs hF
      have oS0 : ∀ m, oS σ o m = 0 := fun m => by unfold oS; rw [hol]; rfl
      have sz' := hR.2.2.2.2.2.2.2.1.sz hc
      have is0 : ∀ m, isx σc l z tn m → lS (ls σc l z) m = 0 := fun m hm => lS_out (fun e he w => e2 e he (by rw [w]; exact hm))
      refine hQ τ L' hR ?_ ?_ hm (knE.ck hR.2.2.1.1 hC (fun x hx _ => (hkn x hx).1)) ?_ ?_ ?_ (by
        obtain ⟨l1, z1, i1, i2, -, -, i5, -, i7, -, -⟩ := hI
        have a := hC.2.2.2
        have b := krt_eq i1 i2.cnt.2.1
        have d : nfr σ (kl σ l1 z1) ≤ (kl σ l1 z1).length := List.length_filter_le _ _
        have e := i5.1
        rw [b, hol] at a
        omega) ⟨by omega, hs.1, hs.2.2.1, hs.2.2.2.1, hs.2.2.2.2⟩ hF
      · intro m m0 m1
        have a := hl m (by omega) m1
        rw [dlt m (by omega) m1, if_pos m0] at a
        have b := hC.1 m (by omega)
        rw [hkS m, oS0 m] at b
        omega
      · intro m m0 m1
        have a := hl m m0 (by omega)
        rw [dlt m m0 (by omega), if_neg (by omega)] at a
        have b := hd m m0 (by omega) (Or.inl m1)
        rw [hlv0 m m0 m1] at b
        have := (lS_r sz' m).1
        omega
      · obtain ⟨lx, zx, ax1, ax2, -⟩ := hI.krt
        exact hC.2.2.1 (fun n s => isx σc l z tn n ∧ 32 ≤ s ∧ s ≤ 256) (fun i i0 i1 => by rw [hol] at i1; omega) (fun x hx _ => ⟨(hkn x hx).2.1, (hkn x hx).1.sz (ax2.kcnt x (by rw [← ax1]; exact hx))⟩)
      · intro x hx hf
        obtain ⟨c1, c2, c3⟩ := hC.2.1 x hx hf
        rw [c3.2.1, c3.2.2.1]; exact (hkn x c1).2
      · intro m m0 m1 hm
        have a := hl m m0 m1
        rw [is0 m hm] at a
        have b := hd m m0 m1 (Or.inr hm)
        have := (lS_r sz' m).1
        omega
    have ndb : ∀ m, (m < 4 + cf.2.2 ∨ isx σc l z tn m) → ∀ b, b ∈ bl → b.1 ≠ m := by
      intro m hm b hb w
      have rng : ∀ (bl : List (Int × Int × Int × List (List Int))) (k s : Int) (S : List (Int × Int × Int × (Int → Int)) × Int), bR tv cf dk db lg lr bl k s S s' S' → ∀ x, x ∈ bl → 4 + cf.2.2 ≤ x.1 := by
        intro bl
        induction bl with
        | nil => intro k s S h x hx; exact absurd hx List.not_mem_nil
        | cons y bl ih =>
          obtain ⟨n, a, b, t⟩ := y
          intro k s S h x hx
          obtain ⟨_, h1, _, _, s1, S1, v, _, _, h2⟩ := h
          rcases List.mem_cons.mp hx with e | e
          · rw [e]; exact h1.1
          · exact ih _ _ _ h2 x e
      have := rng _ _ _ _ s2 b hb
      rcases hm with q | q
      · omega
      · exact (s4 b hb).2 (by rw [w]; exact q)
    have l2v : ∀ m, 0 ≤ m → m < cf.1 - 6 → (m < 4 + cf.2.2 ∨ isx σc l z tn m) → gA σ2 324 o m ≤ gA σ 324 o m := by
      intro m m0 m1 hm
      have := lo2 m m0 m1 (ndb m hm)
      rw [lv1] at this; exact this
    have lr2v : ∀ m, 0 ≤ m → m < cf.1 - 6 → gA σ2 324 o m - lS L2 m = gA σ 324 o m - lS (ls σc l z) m := by
      intro m m0 m1
      rw [r4 m m0 m1, lv1]
    rw [lg2, cm2, w32_id (x := 5 - lg) (by unfold rI; omega), w32_id (x := c + 1) (by unfold rI; omega)]
    by_cases g : dk (5 - lg) ≤ 0 ∨ rI4 (db (5 - lg)) 24 ≠ c + 1
    · refine sp_replay0 hc ho D2 ⟨by omega, by omega⟩ g (fun τ f k _ => ?_)
      have nn : ∀ f o', mRs o f o' → ¬ ((f = 135 ∧ o' = 0) ∨ mRow (o + 4) f o') := fun f o' a q => by unfold mRs at a; unfold mRow at q; omega
      have lv : gA τ 324 o = gA σ2 324 o := f.a _ _ (nn _ _ (Or.inr (Or.inr (Or.inr ⟨rfl, rfl⟩))))
      have sr : gI τ 202 o = gI σ2 202 o := f.i _ _ (fun q => by unfold mRow at q; omega)
      refine fin τ L2 ⟨k, W2.fr f (fun w _ q => by unfold mRow at q; omega), r2.fr f nn⟩ (ckA.tr (CK.fr f (fun f x a b => nn f x (Or.inr (Or.inl ⟨a, b⟩))) (fun f a b => nn f o (Or.inr (Or.inr (Or.inl ⟨⟨a, b⟩, rfl⟩)))))) (by rw [lv]; exact lr2v) (by rw [lv]; exact lm2) (by rw [lv]; exact l2v) ⟨by omega, by omega, by omega, fun k k0 k1 => by rw [sr]; exact sk2 k k0 k1, fun q => ?_⟩ (F2.tr (f.mono (fun f o' q => Or.inl (Or.inr q))))
      exfalso
      rcases g with g | g
      · omega
      · exact g q.2
    · rcases hF2 with q | ⟨bl2, lr2, s2', ⟨q1, q2, q3, q3'⟩, q4, q5, q6, q7, q8, q9, q10, q11, q12⟩
      · exact absurd q g
      · have hm2 : max (gI σ2 228 o) lr2 = max s' lr2 := by omega
        refine sp_replay (X := X) (bl := bl2) (s' := s2') (S' := S') (L := L2) hc ho r1 D2 W2 ⟨by omega, by omega⟩ q4 q7 q5 q6 q8 (by rw [hm2]; exact q9) r2 q10 (fun b hb => ?_) r8 ⟨su2, q3, q2, q12⟩ lm2 (fun b hb => (q11 b hb).2.2) (fun τ L3 rp3 su3 sk3 lm3 lo3 _ => ?_)
        · have rng : ∀ (bl : List (Int × Int × Int × List (List Int))) (k s : Int) (S : List (Int × Int × Int × (Int → Int)) × Int), bR tv cf dk db (5 - lg) lr2 bl k s S s2' S' → ∀ x, x ∈ bl → 4 + cf.2.2 ≤ x.1 ∧ x.1 < cf.1 - 6 := by
            intro bl
            induction bl with
            | nil => intro k s S h x hx; exact absurd hx List.not_mem_nil
            | cons y bl ih =>
              obtain ⟨n, a, b, t⟩ := y
              intro k s S h x hx
              obtain ⟨_, h1, _, _, s1, S1, v, _, _, h2⟩ := h
              rcases List.mem_cons.mp hx with e | e
              · rw [e]; exact h1
              · exact ih _ _ _ h2 x e
          have rg := rng _ _ _ _ q9 b hb
          have := lm2 b.1 (by omega) rg.2
          have := (q11 b hb).1
          have := (hlm.2 b.1 (by omega) rg.2).2.2
          omega
        · obtain ⟨u1, u2, u3, u4, u5, u6, u7, u8⟩ := rp3
          have nd2 : ∀ m, (m < 4 + cf.2.2 ∨ isx σc l z tn m) → ∀ b, b ∈ bl2 → b.1 ≠ m := by
            intro m hm b hb w
            have rng : ∀ (bl : List (Int × Int × Int × List (List Int))) (k s : Int) (S : List (Int × Int × Int × (Int → Int)) × Int), bR tv cf dk db (5 - lg) lr2 bl k s S s2' S' → ∀ x, x ∈ bl → 4 + cf.2.2 ≤ x.1 := by
              intro bl
              induction bl with
              | nil => intro k s S h x hx; exact absurd hx List.not_mem_nil
              | cons y bl ih =>
                obtain ⟨n, a, b, t⟩ := y
                intro k s S h x hx
                obtain ⟨_, h1, _, _, s1, S1, v, _, _, h2⟩ := h
                rcases List.mem_cons.mp hx with e | e
                · rw [e]; exact h1.1
                · exact ih _ _ _ h2 x e
            have := rng _ _ _ _ q9 b hb
            rcases hm with q | q
            · omega
            · exact (q11 b hb).2.1 (by rw [w]; exact q)
          have v0 := sk3 0 (by omega) (by omega)
          rw [show (128 : Int) * 0 = 0 by omega, q7] at v0
          refine fin τ L3 ⟨u1, W2.fr u5 (fun w _ => mRx_w _ w (by decide) (by decide)), u2⟩ (ckA.tr u3) (fun m m0 m1 => by rw [u4 m m0 m1]; exact lr2v m m0 m1) lm3 (fun m m0 m1 hm => Int.le_trans (lo3 m m0 m1 (nd2 m hm)) (l2v m m0 m1 hm)) ⟨by omega, by omega, su3, fun k k0 k1 => by have := sk2 k k0 k1; omega, fun _ => by omega⟩ (F2.tr (u5.mono (fun f o' q => Or.inl q)))
