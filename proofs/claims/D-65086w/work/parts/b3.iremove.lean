/-! a key is removed -/
theorem sI_self (σ : St) (f : Nat) (o : Int) : sI σ f o (gI σ f o) = σ := by
  unfold sI
  refine Prod.ext ?_ rfl
  funext f' o'
  show (if _ then _ else _) = _
  by_cases h : f' = f ∧ o' = o
  · rw [if_pos h, h.1, h.2]; rfl
  · rw [if_neg h]
theorem sp_iremove {tv : Nat → Int} {cf : Cf} {σ : St} {o h lw : Int} {L : List (Int × Int × Int × Int × Int × Int)} {Q : St → Prop} (hrk : RK σ) (hh : rJ h) (hlw : rJ lw) (hI : IX σ o L) (hlen : L.length ≤ 890) (hsz : szOK cf L) (hlv : ∀ m, 0 ≤ m → m < cf.1 - 6 → -1000000000 ≤ gA σ 324 o m ∧ gA σ 324 o m ≤ 1000000000)
    (h0 : ∀ τ, (∀ e, e ∈ L → kyE e ≠ kap h lw) → Fr (mIs o) σ τ → Q τ)
    (hQ : ∀ τ A B e, IX τ o (A ++ B) → L = A ++ e :: B → kyE e = kap h lw → CK σ τ o → (∀ m, 0 ≤ m → m < cf.1 - 6 → gA τ 324 o m - lS (A ++ B) m = gA σ 324 o m - lS L m) → Fr (mIx o) σ τ → Q τ) : wp_Index_remove cf tv o h lw Q σ := by
  have msI : ∀ f o', mIs o f o' → mIx o f o' := fun f o' q => by unfold mIs at q; exact Or.inl ⟨by omega, q.2⟩
  unfold wp_Index_remove
  refine sp_find hrk hh hlw hI (fun τ A B q1 q2 q3 q4 _ kτ => ⟨fun q => absurd rfl q, fun _ => h0 τ (fun e he w => ?_) q4⟩) (fun τ A B x k q1 q2 q3 q4 q5 q6 q7 q8 q9 q10 q11 q12 q13 q14 _ kτ => ⟨fun _ => ?_, fun q => by omega⟩)
  · rw [q1] at he
    rcases List.mem_append.mp he with u | u
    · have := q2 e u; omega
    · have := q3 e u; omega
  have sx := hsz (en σ x k) (by rw [q1]; exact List.mem_append.mpr (Or.inr List.mem_cons_self))
  rw [q8, q10]
  refine ⟨sx.1, sx.1, fun σ18 e18 => ?_⟩
  have lvτ : gA τ 324 o = gA σ 324 o := q14.a _ _ (fun q => by unfold mIs at q; omega)
  have lv0 := hlv _ sx.1.1 sx.1.2
  rw [lvτ, w32_id (by unfold rI; omega)] at e18
  have f18 : Fr (fun f o' => f = 324 ∧ o' = o) τ σ18 := by rw [e18]; exact (Fr.rf _ _).sA ⟨rfl, rfl⟩
  have fm : Fr (fun f o' => mIs o f o' ∨ (f = 324 ∧ o' = o)) σ σ18 := (q14.mono (fun f o' q => Or.inl q)).tr (f18.mono (fun f o' q => Or.inr q))
  have n1' : ∀ f x, 576 ≤ f → f ≤ 587 → ¬ (mIs o f x ∨ (f = 324 ∧ x = o)) := fun f x a b q => by unfold mIs at q; omega
  have n2' : ∀ f, 385 ≤ f → f ≤ 390 → ¬ (mIs o f o ∨ (f = 324 ∧ o = o)) := fun f a b q => by unfold mIs at q; omega
  have IX18 : IX σ18 o L := hI.fr fm n1' n2'
  have CK18 : CK σ σ18 o := CK.fr fm n1' n2'
  have k18 : RK σ18 := by rw [e18]; exact kτ.sA (by show rI _; unfold rI; omega)
  have l18 : ∀ m, gA σ18 324 o m = if m = (en σ x k).2.2.1 then gA σ 324 o (en σ x k).2.2.1 - (en σ x k).2.2.2.2.1 else gA σ 324 o m := fun m => by rw [e18, sA_if, lvτ]
  have live : ∀ φ, gA φ 324 o = gA σ18 324 o → ∀ m, 0 ≤ m → m < cf.1 - 6 → gA φ 324 o m - lS (A ++ B) m = gA σ 324 o m - lS L m := by
    intro φ e m _ _
    rw [e, l18, q1, lS_app, lS_app, lS_cons]
    generalize (en σ x k).2.2.1 = u1
    generalize (en σ x k).2.2.2.2.1 = u2
    by_cases u : m = u1
    · subst u; simp; omega
    · have u' : ¬ u1 = m := fun q => u q.symm
      simp [u, u']
  have fmx : Fr (mIx o) σ σ18 := fm.mono (fun f o' q => by
    rcases q with q | q
    · exact msI f o' q
    · exact Or.inr (Or.inr q))
  obtain ⟨l, z, i1, i2, i3, i4, i5, i6, i7, i8, i9⟩ := IX18
  have few := i2.few (by rw [i4]; omega)
  have srt := i2.srt
  rw [i4, q1] at srt
  obtain ⟨m1, m2⟩ := srt_mid srt
  rw [i1]
  refine sp_take hlw l 12 σ18 z _ (-BIG) BIG A B (en σ x k) _ (by omega) k18 i2 (fun w => by rw [if_neg (by omega)]; omega) (i4.trans q1) q2 (fun a ha => by have := m1 a ha; omega) i3 i5 i6 i8 (by omega) (by omega) (fun υ tp kυ => ?_)
  obtain ⟨t1, t2, t3, t4, t5, t6⟩ := tp
  have tc := t1.cnt
  have rt : gI υ 387 o = z := by rw [t4.2.2.2.2.2.2.2.2.i _ _ (fun q => by unfold mCh at q; omega)]; exact i1
  have lvυ : gA υ 324 o = gA σ18 324 o := t4.2.2.2.2.2.2.2.2.a _ _ (fun q => by unfold mCh at q; omega)
  have fin : ¬ (0 < l ∧ gI υ 577 z = 1) → Q υ := by
    intro hno
    have W : WT υ l (if l = 0 then 0 else 2) 8 z (-BIG) BIG := by
      obtain ⟨w1, w2, w3, w4⟩ := WT_it.mp t1
      refine WT_it.mpr ⟨w1, w2, ⟨?_, w3.2⟩, w4⟩
      by_cases q : l = 0
      · rw [if_pos q]; omega
      · rw [if_neg q]
        have := w3.1
        rw [if_neg q] at this
        omega
    obtain ⟨r1, r2, r3⟩ := IX.of (υ := υ) i1 i2.cnt.2.1 i7 i9 i6 i5 (Fr.rf _ _) rt W t2 t3 t4
    exact hQ υ A B (en σ x k) r1 q1 q2 (CK18.tr r2) (live υ lvυ) (fmx.tr r3)
  have hp := t4.2.2.1.1
  have hfr : ((kl υ l z).length : Int) = gI υ 386 o := by have := t4.2.2.2.1; omega
  have hlen1 : 1 ≤ gI υ 386 o := by
    rw [← hfr, kl_it]
    simp only [List.length_cons]
    omega
  have hp1 := hp.1
  refine lQ0_rule (fun φ => φ = υ ∨ (gI φ 386 o = gI υ 386 o - 1 ∧ 0 ≤ gI φ 387 o ∧ (¬ gI φ 577 (gI φ 387 o) = 1) ∧ Q φ)) (fun φ => (gI φ 386 o).toNat) ?_ υ (Or.inl rfl)
  intro K φ hφ hK
  unfold wp_Index_remove_L39
  rcases hφ with rfl | ⟨g1, g2, g3, g4⟩
  rotate_left
  · exact ⟨g2, fun _ => g4, fun _ => ⟨fun _ => g4, fun q => absurd q g3⟩⟩
  rw [rt, tc.2.1]
  refine ⟨tc.1.1, fun q => fin (fun w => by omega), fun q => ⟨fun w => fin (fun u => w u.2), fun w y ey => ⟨by omega, fun σ13 e13 => ?_⟩⟩⟩
  obtain ⟨m, rfl⟩ : ∃ m, l = m + 1 := ⟨l - 1, by omega⟩
  rw [ey] at e13 ⊢
  have g := t1.2.2.2 0 (Int.le_refl _) (by omega)
  generalize hc : be φ z 0 = c at *
  have hcb : gA φ 583 z 0 = c := hc
  rw [hcb] at e13
  have gcc := g.2.2.cnt
  have f13 : Fr (fun f o' => f = 387 ∧ o' = o) φ σ13 := by rw [e13]; exact (Fr.rf _ _).sI ⟨rfl, rfl⟩
  have n13 : ∀ f x, f ≠ 387 → ¬ (f = 387 ∧ x = o) := fun f x h q => h q.1
  have eK : kl φ (m + 1) z = [] ++ ([z] ++ kl φ m c) := by
    show z :: cat _ _ = _
    rw [w]
    show z :: ([] ++ kl φ m (be φ z 0)) = _
    rw [hc]; rfl
  have eL : ls φ (m + 1) z = ls φ m c := by
    show cat _ _ = _
    rw [w]
    show [] ++ ls φ m (be φ z 0) = _
    rw [hc]; rfl
  have top : z ∉ kl φ m c := by rw [← hc]; exact t1.top (Int.le_refl _) (by omega)
  refine sp_give tc.1.1 (by rw [f13.i _ _ (n13 _ _ (by decide))]; exact t5) (by rw [f13.i _ _ (n13 _ _ (by decide)), w]; omega) (by rw [f13.i _ _ (n13 _ _ (by decide))]; omega) (fun ψ p1 p2 p3 _ => ?_)
  rw [f13.i _ _ (n13 386 o (by decide))] at p1 p2
  rw [f13.a _ _ (n13 385 o (by decide))] at p2
  -- the same with the root as it was
  have eφ : sI σ13 387 o z = φ := by rw [e13, sI_sI, ← rt, sI_self]
  have pg : Fr (mGi o z) φ (sI ψ 387 o z) := by
    have := frc p3 387 o z
    rw [eφ] at this; exact this
  have cg : CH φ (sI ψ 387 o z) o [z] [] := by
    refine CH.give hp (t4.2.2.1.2 z (kl_self _ _ _)) t4.2.2.2.2.2.1.1 t5 ?_ hlen1 (by rw [gI_sI, if_neg (fun q => absurd q.1 (by decide))]; exact p1) (fun i => by rw [gA_sI]; exact p2 i) pg
    rcases t4.1 z (kl_self _ _ _) with u | ⟨i, hi, e⟩
    · exact (i6 z u).2
    · rw [← e]; exact (i5.2 i hi.1 hi.2).1
  have ke : ∀ v, v ≠ z → KE φ (sI ψ 387 o z) v ∧ OE φ (sI ψ 387 o z) v := fun v hv => ⟨KE.fr pg (fun f a b q => by
    unfold mGi at q
    rcases q with q | q
    · exact hv q.2
    · omega), OE.fr pg (fun f a b q => by unfold mGi at q; omega)⟩
  have kc : ∀ v, v ∈ kl φ m c → KE φ (sI ψ 387 o z) v ∧ OE φ (sI ψ 387 o z) v := fun v hv => ke v (fun e => top (e ▸ hv))
  obtain ⟨b1, b2⟩ := tr_fr (σ := φ) (τ := sI ψ 387 o z) m c (fun v hv => (kc v hv).1)
  have C : CH σ18 (sI ψ 387 o z) o (kl σ18 (m + 1) z) (kl (sI ψ 387 o z) m c) := by
    rw [b2]
    refine t4.tr ?_
    have := cg.ctx [] (kl φ m c) (fun v hv => (by cases hv)) (fun v hv => ⟨fun q => top (by rw [← List.mem_singleton.mp q]; exact hv), t4.2.2.1.2 v (by rw [eK]; exact List.mem_cons_of_mem _ hv)⟩)
    rw [← eK] at this; exact this
  have rψ : gI ψ 387 o = c := by
    rw [p3.i _ _ (fun q => by unfold mGi at q; omega), e13, gI_sI, if_pos ⟨rfl, rfl⟩]
  have W : WT (sI ψ 387 o z) m (if m = 0 then 0 else 2) 8 c (-BIG) BIG := by
    have a := g.2.2
    have lo := (t1.key 0 (Int.le_refl _) (by omega)).1
    have hi := (t1.hi (i := 0) (Int.le_refl _) (by omega)).1
    exact ((a.mono (mn' := if m = 0 then 0 else 2) (by split <;> omega) (Int.le_refl _) lo hi).fr (fun v hv => (kc v hv).1))
  have N : NC (sI ψ 387 o z) m c := by
    have a := (t2 0 (Int.le_refl _) (by omega)).2
    rw [hc] at a
    exact a.fr kc
  have hu : Fr (fun f o' => f = 387 ∧ o' = o) (sI ψ 387 o z) ψ := by
    intro f o' q
    refine ⟨?_, fun i => rfl⟩
    rw [gI_sI, if_neg q]
  obtain ⟨r1, r2, r3⟩ := IX.of (υ := ψ) (L := A ++ B) i1 i2.cnt.2.1 i7 i9 i6 i5 hu rψ W N (b1.trans (eL.symm.trans t3)) C
  have cn : gI ψ 577 c = gI φ 577 c := by
    have a := (kc c (kl_self _ _ _)).1.2.1
    rw [gI_sI, if_neg (fun q => absurd q.1 (by decide))] at a; exact a
  refine hK ψ (Or.inr ⟨p1, by rw [rψ]; exact gcc.1.1, by rw [rψ, cn]; omega, ?_⟩) (by rw [p1]; omega)
  refine hQ ψ A B (en σ x k) r1 q1 q2 (CK18.tr r2) (live ψ ?_) (fmx.tr r3)
  rw [p3.a _ _ (fun q => by unfold mGi at q; omega), f13.a _ _ (n13 _ _ (by decide)), lvυ]
